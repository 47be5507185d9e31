/-! THE CLASSES: their numbers (X1: 2, .. J0: 30, ..; 120: a String of the start, 121: an Integer of the start; arrays from 100 on) -/
set_option maxRecDepth 100000
abbrev CI : Type := String × u_T × Nat × (Nat → FieldType)
def cT0 : u_T := fun _ => ("", "", "", false)
def cty0 : Nat → FieldType := fun _ => .int
def ctl : List (Nat × CI) := [(2, (RX1, TX1, 10, tyX1)), (3, (RX2, TX2, 10, tyX2)), (4, (RX3, TX3, 1, tyX3)), (5, (RX4, TX4, 3, tyX4)), (6, (RX5, TX5, 49, tyX5)), (7, (RX6, TX6, 4, tyX6)), (8, (RX7, TX7, 8, tyX7)), (10, (RX9, TX9, 8, tyX9)), (11, (RX10, TX10, 6, tyX10)), (12, (RX11, TX11, 3, tyX11)), (13, (RX12, TX12, 5, tyX12)), (14, (RX13, TX13, 3, tyX13)), (15, (RX14, TX14, 6, tyX14)), (16, (RX15, cT0, 0, cty0)), (17, (RX16, TX16, 3, tyX16)), (32, (RJ2, TJ2, 3, tyJ2)), (36, (RJ6, TJ6, 3, tyJ6)), (37, (RJ7, TJ7, 3, tyJ7)), (39, (RJ9, TJ9, 4, tyJ9)), (40, (RJ10, TJ10, 4, tyJ10)), (42, (RJ12, TJ12, 3, tyJ12)), (45, (RJ15, TJ15, 5, tyJ15)), (48, (RJ18, cT0, 0, cty0)), (50, (RJ20, TJ20, 1, tyJ20)), (51, (RJ21, cT0, 0, cty0)), (54, (RJ24, TJ24, 9, tyJ24)), (57, (RJ27, TJ27, 6, tyJ27)), (58, (RJ28, TJ28, 4, tyJ28)), (61, (RJ31, TJ31, 5, tyJ31)), (62, (RJ32, cT0, 0, cty0)), (64, (RJ34, TJ34, 4, tyJ34)), (66, (RJ36, TJ36, 1, tyJ36)), (68, (RJ38, TJ38, 4, tyJ38)), (69, (RJ39, TJ39, 4, tyJ39)), (70, (RJ40, TJ40, 1, tyJ40)), (72, (RJ42, TJ42, 4, tyJ42)), (73, (RJ43, TJ43, 1, tyJ43)), (74, (RJ44, TJ44, 6, tyJ44)), (75, (RJ45, cT0, 0, cty0)), (76, (RJ46, TJ46, 6, tyJ46)), (77, (RJ47, cT0, 0, cty0)), (120, (RJ10, TJ10, 4, tyJ10)), (121, (RJ20, TJ20, 1, tyJ20))]
def ascC (l : List (Nat × CI)) (c : Nat) : Option CI := match l with
  | [] => none
  | q :: l => bif Nat.beq q.1 c then some q.2 else ascC l c
def ct (c : Nat) : Option CI := ascC ctl c
def ciOk (x : CI) : Prop := (∀ w ∈ u_ws x.1 x.2.1 x.2.2.1, w ∈ lw_all) ∧ (∀ k, k < x.2.2.1 → parseFieldDescriptor (x.2.1 k).2.2.1 = some (x.2.2.2 k)) ∧ (∀ a, a < x.2.2.1 → ∀ b, b < x.2.2.1 → a ≠ b → (x.2.1 a).2.1 ≠ (x.2.1 b).2.1)
theorem ci0 {C : String} : ciOk (C, cT0, 0, cty0) := ⟨fun w h => (by cases h), fun k h => (by cases h), fun k h => (by cases h)⟩
theorem ascC_mem {l : List (Nat × CI)} {c : Nat} {x : CI} (h : ascC l c = some x) : (c, x) ∈ l := by
  induction l with
  | nil => cases h
  | cons q l ih =>
    unfold ascC at h
    cases hb : Nat.beq q.1 c with
    | true => rw [hb] at h; have e := Nat.eq_of_beq_eq_true hb; cases h; rw [← e]; exact List.mem_cons_self
    | false => rw [hb] at h; exact List.mem_cons_of_mem _ (ih h)
theorem ctl_ok : ∀ q ∈ ctl, ciOk q.2 := List.forall_mem_cons.mpr ⟨⟨in_X1, tyX1_ok, nmX1⟩, List.forall_mem_cons.mpr ⟨⟨in_X2, tyX2_ok, nmX2⟩, List.forall_mem_cons.mpr ⟨⟨in_X3, tyX3_ok, nmX3⟩, List.forall_mem_cons.mpr ⟨⟨in_X4, tyX4_ok, nmX4⟩, List.forall_mem_cons.mpr ⟨⟨in_X5, tyX5_ok, nmX5⟩, List.forall_mem_cons.mpr ⟨⟨in_X6, tyX6_ok, nmX6⟩, List.forall_mem_cons.mpr ⟨⟨in_X7, tyX7_ok, nmX7⟩, List.forall_mem_cons.mpr ⟨⟨in_X9, tyX9_ok, nmX9⟩, List.forall_mem_cons.mpr ⟨⟨in_X10, tyX10_ok, nmX10⟩, List.forall_mem_cons.mpr ⟨⟨in_X11, tyX11_ok, nmX11⟩, List.forall_mem_cons.mpr ⟨⟨in_X12, tyX12_ok, nmX12⟩, List.forall_mem_cons.mpr ⟨⟨in_X13, tyX13_ok, nmX13⟩, List.forall_mem_cons.mpr ⟨⟨in_X14, tyX14_ok, nmX14⟩, List.forall_mem_cons.mpr ⟨ci0, List.forall_mem_cons.mpr ⟨⟨in_X16, tyX16_ok, nmX16⟩, List.forall_mem_cons.mpr ⟨⟨in_J2, tyJ2_ok, nmJ2⟩, List.forall_mem_cons.mpr ⟨⟨in_J6, tyJ6_ok, nmJ6⟩, List.forall_mem_cons.mpr ⟨⟨in_J7, tyJ7_ok, nmJ7⟩, List.forall_mem_cons.mpr ⟨⟨in_J9, tyJ9_ok, nmJ9⟩, List.forall_mem_cons.mpr ⟨⟨in_J10, tyJ10_ok, nmJ10⟩, List.forall_mem_cons.mpr ⟨⟨in_J12, tyJ12_ok, nmJ12⟩, List.forall_mem_cons.mpr ⟨⟨in_J15, tyJ15_ok, nmJ15⟩, List.forall_mem_cons.mpr ⟨ci0, List.forall_mem_cons.mpr ⟨⟨in_J20, tyJ20_ok, nmJ20⟩, List.forall_mem_cons.mpr ⟨ci0, List.forall_mem_cons.mpr ⟨⟨in_J24, tyJ24_ok, nmJ24⟩, List.forall_mem_cons.mpr ⟨⟨in_J27, tyJ27_ok, nmJ27⟩, List.forall_mem_cons.mpr ⟨⟨in_J28, tyJ28_ok, nmJ28⟩, List.forall_mem_cons.mpr ⟨⟨in_J31, tyJ31_ok, nmJ31⟩, List.forall_mem_cons.mpr ⟨ci0, List.forall_mem_cons.mpr ⟨⟨in_J34, tyJ34_ok, nmJ34⟩, List.forall_mem_cons.mpr ⟨⟨in_J36, tyJ36_ok, nmJ36⟩, List.forall_mem_cons.mpr ⟨⟨in_J38, tyJ38_ok, nmJ38⟩, List.forall_mem_cons.mpr ⟨⟨in_J39, tyJ39_ok, nmJ39⟩, List.forall_mem_cons.mpr ⟨⟨in_J40, tyJ40_ok, nmJ40⟩, List.forall_mem_cons.mpr ⟨⟨in_J42, tyJ42_ok, nmJ42⟩, List.forall_mem_cons.mpr ⟨⟨in_J43, tyJ43_ok, nmJ43⟩, List.forall_mem_cons.mpr ⟨⟨in_J44, tyJ44_ok, nmJ44⟩, List.forall_mem_cons.mpr ⟨ci0, List.forall_mem_cons.mpr ⟨⟨in_J46, tyJ46_ok, nmJ46⟩, List.forall_mem_cons.mpr ⟨ci0, List.forall_mem_cons.mpr ⟨⟨in_J10, tyJ10_ok, nmJ10⟩, List.forall_mem_cons.mpr ⟨⟨in_J20, tyJ20_ok, nmJ20⟩, fun _ h => by cases h⟩⟩⟩⟩⟩⟩⟩⟩⟩⟩⟩⟩⟩⟩⟩⟩⟩⟩⟩⟩⟩⟩⟩⟩⟩⟩⟩⟩⟩⟩⟩⟩⟩⟩⟩⟩⟩⟩⟩⟩⟩⟩⟩
theorem ct_ok {c : Nat} {x : CI} (h : ct c = some x) : ciOk x := ctl_ok _ (ascC_mem h)
def act (c : Nat) : Option FieldType := match c with
  | 100 => some (.int)
  | 101 => some (.long)
  | 102 => some (.byte)
  | 103 => some (.boolean)
  | 104 => some (.object "java/lang/Object")
  | 105 => some (.object "CountyGazetteer$Block")
  | 106 => some (.object "java/lang/Integer")
  | 107 => some (.byte)
  | 108 => some (.object "java/lang/Object")
  | 109 => some (.int)
  | 110 => some (.int)
  | 111 => some (.long)
  | 112 => some (.long)
  | 113 => some (.boolean)
  | _ => none
def ro (c : Nat) : Bool := mem [106, 107, 108, 109, 120, 121] c
