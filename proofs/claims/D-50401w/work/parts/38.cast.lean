/-! casts of byte arrays -/
set_option maxRecDepth 100000
section G18
variable {p : Program} {l : Launch} {e : Env} {R : Room} {s : State} {m : MethodId} {args : Array Value} {below : List Frame} {meth : Method} {c : Code} {s0 : State} {D : Dt} {S0 : SS} {nL d : Nat} {cc : ByteArray} {own : String} {ret : Option FieldType} {x : RV × SS} {pc : Nat}
theorem sn_castB (C : Cx p l R s m args meth c s0 D S0 nL d cc own ret) {idx : Nat} (hd : decode cc pc = .ok (.checkcast idx, 3)) (hl : Cond.classLink own idx "[B" ∈ lw_all) : Snd p l e R s m args below meth c s0 D S0 nL x pc (i_cast [102] (pc + 3)) := by
  intro lv st S o ho hk
  unfold i_cast at ho
  split at ho
  · rename_i r st
    cases hm : okr S [102] r with
    | false => rw [hm] at ho; cases ho
    | true =>
      rw [hm] at ho
      rw [nx_some ho] at hk
      intro H locs ls h1 h2 h3 h4 h5 h6 h7
      cases r with
      | none => exact lv_castN C.ex C.by hd (hk H locs ls h1 h2 h3 h4 h5 h6 h7)
      | some a =>
        have hc : hC S a = 102 := List.mem_singleton.mp (okr_spec hm)
        obtain ⟨cell, v1, v2, v3, v4, v5⟩ := h1.2.2.2.2.2.2.1 a .byte (by rw [hc]; rfl)
        obtain ⟨w1, w2, w3⟩ := v4 (by rw [hc]; rfl)
        have hf : s.vm.findClass "[B" = some cell.cls := w3.moved C.wm.alike
        have ha : s.vm.assignable cell.cls cell.cls = true := by
          show Vm.assignableAux s.vm (255 + 1) _ _ = true
          unfold Vm.assignableAux
          rw [beq_self_eq_true]
          rfl
        intro T hT X
        obtain ⟨vm', X', stp⟩ := X.checkcastYes C.ex C.ow (C.ts hl) (by rw [hT]; exact v1) (by rw [w1]; rfl) hf ha (g := F0 m pc ls (.ref a :: st.map tv)) rfl rfl (by rw [C.by]; exact hd)
        obtain ⟨t', a1, b1⟩ := hk H locs ls h1 h2 h3 h4 h5 h6 h7 (T.setVm vm') hT X'
        exact ⟨t', stp t' a1, b1⟩
  · cases ho
end G18
