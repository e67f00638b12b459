set_option maxRecDepth 100000
/-! orders stored and copied: the array of addresses fo changes -/
theorem jo_Is.cell {E : jf_E} {S : jf_S} {fo : Nat → Nat → Option Nat} {pl : va_W} {a : Nat} {r : jo_R} (h : jo_Is pl a r) : ∃ (q ci : Nat) (vs : List Value) (C : vw_C), (jf_ws E S fo pl)[q]? = some (a, .inr (ci, vs)) ∧ jx_cl[ci]? = some C ∧ (C.1, "JumpFence$Order") ∈ jf_nc := by
  rcases h with ⟨-, k⟩ | ⟨-, k⟩ | ⟨-, k⟩ | ⟨-, k⟩ | ⟨-, k⟩ | ⟨-, k⟩ | ⟨-, k⟩ | ⟨-, k⟩ | ⟨-, k⟩ | ⟨-, k⟩
  · obtain ⟨b, w, k1, -, -⟩ := k
    obtain ⟨q, hq⟩ := jf_pool (E := E) (S := S) (fo := fo) k1
    exact ⟨q, 6, _, _, hq, rfl, by decide +kernel⟩
  · obtain ⟨q, hq⟩ := jf_pool (E := E) (S := S) (fo := fo) k
    exact ⟨q, 7, _, _, hq, rfl, by decide +kernel⟩
  · obtain ⟨q, hq⟩ := jf_pool (E := E) (S := S) (fo := fo) k
    exact ⟨q, 8, _, _, hq, rfl, by decide +kernel⟩
  · obtain ⟨b, d, k1, -, -⟩ := k
    obtain ⟨q, hq⟩ := jf_pool (E := E) (S := S) (fo := fo) k1
    exact ⟨q, 9, _, _, hq, rfl, by decide +kernel⟩
  · obtain ⟨q, hq⟩ := jf_pool (E := E) (S := S) (fo := fo) k
    exact ⟨q, 10, _, _, hq, rfl, by decide +kernel⟩
  · obtain ⟨q, hq⟩ := jf_pool (E := E) (S := S) (fo := fo) k
    exact ⟨q, 11, _, _, hq, rfl, by decide +kernel⟩
  · obtain ⟨q, hq⟩ := jf_pool (E := E) (S := S) (fo := fo) k
    exact ⟨q, 12, _, _, hq, rfl, by decide +kernel⟩
  · obtain ⟨q, hq⟩ := jf_pool (E := E) (S := S) (fo := fo) k
    exact ⟨q, 13, _, _, hq, rfl, by decide +kernel⟩
  · obtain ⟨b, k1, -⟩ := k
    obtain ⟨q, hq⟩ := jf_pool (E := E) (S := S) (fo := fo) k1
    exact ⟨q, 14, _, _, hq, rfl, by decide +kernel⟩
  · obtain ⟨q, hq⟩ := jf_pool (E := E) (S := S) (fo := fo) k
    exact ⟨q, 15, _, _, hq, rfl, by decide +kernel⟩
section
variable {p : Program} {l : Launch} {e : Env} {R : Room} {s : State} {m : MethodId} {args : Array Value} {below : List Frame} {meth : Method} {c : Code} {H : Heap} {locs : List Loc} {cells slots : Nat} {Q : State → Prop} {pc : Nat} {ls : Array Slot} {rest : List Value} {A : Nat → Prop} {D : va_G} {E : jf_E} {fo : Nat → Nat → Option Nat} {pl : va_W} {cc : ByteArray} {S : jf_S} {own : String}
/-- array[i] = an order -/
theorem jf_qast (hx : p.tables.exec = Jvm.exec) (hb : c.code = cc) (hV : jf_V D E A s) (hP : jf_P D E A S fo pl H) (hS : va_S A s.heap H locs) {o k j a : Nat} {i : Int32} {r : jo_R} (ha : jf_AQ E S fo pl o k) (hr : jo_Is pl a r) (ej : j = i.toNatClampNeg) (hin : vp_in i 40) (hdg : decode cc pc = .ok (.aastore, 1))
    (kk : ∀ (H : Heap) (locs : List Loc), jf_P D E A (jf_setO S o (va_up (S.2.2.2.2 o) j (some r))) (jf_up fo o (va_up (fo o) j (some a))) pl H → va_S A s.heap H locs → W p l e R s m args below meth c H locs cells slots Q (F0 m (pc + 1) ls rest)) : W p l e R s m args below meth c H locs cells slots Q (F0 m pc ls (.ref a :: .int i :: .ref (E.2.1 o k) :: rest)) := by
  subst ej
  obtain ⟨q, hq, hu⟩ := ha
  obtain ⟨qk, ci, vs, C, h1, h2, h3⟩ := hr.cell (E := E) (S := S) (fo := fo)
  refine va_astqO hx hb hV.1 hP.1 hP.2.1 hS q 5 qk ci hq rfl (hV.2.2.1.2.2.1 _ h3) h1 h2 hin hdg (fun H1 l1 hP1 hD1 hS1 => ?_)
  rw [hu _ (va_up (S.2.2.2.2 o) i.toNatClampNeg (some r))] at hP1 hD1
  refine kk H1 l1 ⟨hP1, hD1, fun o' i' r' hr' => ?_, fun o' i' hr' => ?_⟩ hS1
  · by_cases e1 : o' = o
    · subst e1
      have hr1 : va_up (S.2.2.2.2 o') i.toNatClampNeg (some r) i' = some r' := by simpa [jf_setO] using hr'
      show ∃ a_1, (jf_up fo o' (va_up (fo o') i.toNatClampNeg (some a))) o' i' = some a_1 ∧ _
      by_cases e2 : i' = i.toNatClampNeg
      · simp only [va_up, if_pos e2] at hr1
        cases hr1
        exact ⟨a, by simp [jf_up, va_up, e2], hr⟩
      · simp only [va_up, if_neg e2] at hr1
        obtain ⟨b, g1, g2⟩ := hP.2.2.1 o' i' r' hr1
        exact ⟨b, by simp [jf_up, va_up, e2, g1], g2⟩
    · have hr1 : S.2.2.2.2 o' i' = some r' := by simpa [jf_setO, e1] using hr'
      obtain ⟨b, g1, g2⟩ := hP.2.2.1 o' i' r' hr1
      exact ⟨b, by simp [jf_up, e1, g1], g2⟩
  · by_cases e1 : o' = o
    · subst e1
      have hr1 : va_up (S.2.2.2.2 o') i.toNatClampNeg (some r) i' = none := by simpa [jf_setO] using hr'
      by_cases e2 : i' = i.toNatClampNeg
      · simp [va_up, e2] at hr1
      · simp only [va_up, if_neg e2] at hr1
        have := hP.2.2.2 o' i' hr1
        simp [jf_up, va_up, e2, this]
    · have hr1 : S.2.2.2.2 o' i' = none := by simpa [jf_setO, e1] using hr'
      have := hP.2.2.2 o' i' hr1
      simp [jf_up, e1, this]
/-- System.arraycopy of a program's orders, all 40 -/
theorem jf_copyq {ix o1 k1 o2 k2 : Nat} (hx : p.tables.exec = Jvm.exec) (hb : c.code = cc) (hml : c.maxLocals = ls.size) (hown : s.vm.findClass own = some m.cls) (hlink : (Cond.methodLink own ix arraycopyName).before args s = true) (hts : ∀ w ∈ lw_all, w.before args s = true) (hV : jf_V D E A s) (hP : jf_P D E A S fo pl H) (hS : va_S A s.heap H locs) (ha0 : jf_AQ E S fo pl o1 k1) (ha1 : jf_AQ E S fo pl o2 k2) (hframes : 1 ≤ R.frames) (hlocals : (rest.map fun v => v.category).sum + (nativeFrameWords "java/lang/System" "arraycopy" 5 + 11) ≤ R.locals) (hdg : decode cc pc = .ok (.invokestatic ix, 3))
    (kk : ∀ (H : Heap) (locs : List Loc), jf_P D E A (jf_setO S o2 (va_cpy (S.2.2.2.2 o1) (S.2.2.2.2 o2) 0 0 40)) (jf_up fo o2 (va_cpy (fo o1) (fo o2) 0 0 40)) pl H → va_S A s.heap H locs → W p l e R s m args below meth c H locs cells slots Q (F0 m (pc + 3) ls rest)) : W p l e R s m args below meth c H locs cells slots Q (F0 m pc ls (.int (nI 40) :: .int (nI 0) :: .ref (E.2.1 o2 k2) :: .int (nI 0) :: .ref (E.2.1 o1 k1) :: rest)) := by
  obtain ⟨q0, hq0, -⟩ := ha0
  obtain ⟨q1, hq1, hu⟩ := ha1
  intro T hT X
  have hc0 : H[E.2.1 o1 k1]? = some (vp_cell (E.2.2.1 5) (40, .inr (.inr (.inr (.inr (fo o1)))))) := hP.1 q0 _ hq0
  have hc1 : H[E.2.1 o2 k2]? = some (vp_cell (E.2.2.1 5) (40, .inr (.inr (.inr (.inr (fo o2)))))) := hP.1 q1 _ hq1
  obtain ⟨kA, comp, f1, f2, f3, -⟩ := (hV.1.2 5 _ rfl).2
  have e0 : (nI 0).toNatClampNeg = 0 := by decide
  have e40 : (nI 40).toNatClampNeg = 40 := by decide
  obtain ⟨vm', X', step⟩ := X.arraycopy hx hown hlink (hts _ q735) (hts _ q734) (hts _ q134) (src := E.2.1 o1 k1) (dst := E.2.1 o2 k2) (cs := vp_cell (E.2.2.1 5) (40, .inr (.inr (.inr (.inr (fo o1)))))) (cd := vp_cell (E.2.2.1 5) (40, .inr (.inr (.inr (.inr (fo o2)))))) (srcPos := nI 0) (destPos := nI 0) (n := nI 40) (by rw [hT]; exact hc0) (by rw [hT]; exact hc1)
    (fun _ h => by cases h) (fun _ h => by cases h) (fun h => by cases h) (fun h => by cases h) f1 f1 f2 f2 (by decide) (by decide) (by decide) (by decide)
    (by show ¬ _ > ((arrV (E.2.2.1 5) 40 (fun j => va_rf (fo o1 j))).slots.size : Int); rw [arrV_size]; decide)
    (by show ¬ _ > ((arrV (E.2.2.1 5) 40 (fun j => va_rf (fo o2 j))).slots.size : Int); rw [arrV_size]; decide)
    (fun vm1 hal i hi => by
      rw [e40] at hi
      rw [e0, Nat.zero_add]
      have e : (vp_cell (E.2.2.1 5) (40, .inr (.inr (.inr (.inr (fo o1)))))).slots.getD i .null = va_rf (fo o1 i) := by
        show (arrV (E.2.2.1 5) 40 (fun j => va_rf (fo o1 j))).slots.getD _ _ = _
        rw [Array.getD_eq_getD_getElem?, arrV_read _ _ hi]
        rfl
      rw [e]
      cases hr : S.2.2.2.2 o1 i with
      | none =>
        rw [hP.2.2.2 o1 i hr]
        exact ⟨rfl, trivial⟩
      | some r =>
        obtain ⟨a, g1, g2⟩ := hP.2.2.1 o1 i r hr
        rw [g1]
        refine ⟨rfl, ?_⟩
        obtain ⟨qk, ci, vs, C, h1, h2, h3⟩ := g2.cell (E := E) (S := S) (fo := fo)
        obtain ⟨r', hr', cellV, k1, k2, k3, -⟩ := hP.1 qk _ h1
        have hcls := (hV.1.1 ci C h2).2
        obtain ⟨c0, t1, d1, d2, d3⟩ := Cond.castable_spec (va_Nw.use (A := args) rfl (hV.2.2.1.2.2.1 _ h3))
        cases hcls.1.symm.trans d1
        cases f3.symm.trans d2
        obtain ⟨kC, hkC, -⟩ := hcls.2
        obtain ⟨kE, hkE, -⟩ := Vm.findClass_spec f3
        obtain ⟨kC1, hkC1, -⟩ := hal.2.2 _ _ hkC
        obtain ⟨kE1, hkE1, -⟩ := hal.2.2 _ _ hkE
        exact ⟨cellV, (by show T.heap[a]? = _; rw [hT]; exact k1), (fun q h => (by rw [h] at k3; cases k3)), ⟨kC1, (by rw [k2]; exact hkC1)⟩, ⟨kE1, hkE1⟩, (by rw [k2]; show vm1.assignable _ _ = true; rw [hal.assignable]; exact d3)⟩)
    (g := F0 m pc ls (.int (nI 40) :: .int (nI 0) :: .ref (E.2.1 o2 k2) :: .int (nI 0) :: .ref (E.2.1 o1 k1) :: rest)) rfl (by rw [hml]) (rest := rest) rfl (by rw [hb]; exact hdg) hframes (by show 2 * 0 + _ + _ ≤ _; omega)
  have e1 : copied (vp_cell (E.2.2.1 5) (40, .inr (.inr (.inr (.inr (fo o1)))))) (vp_cell (E.2.2.1 5) (40, .inr (.inr (.inr (.inr (fo o2)))))) (nI 0) (nI 0) (nI 40) = vp_cell (E.2.2.1 5) (40, .inr (.inr (.inr (.inr (va_cpy (fo o1) (fo o2) 0 0 40))))) := va_copied va_rf (E.2.2.1 5) (E.2.2.1 5) (fo o1) (fo o2) (n0 := 40) (n1 := 40) (sp := 0) (dp := 0) (n := 40) (Nat.le_refl _)
  rw [e1] at X' step
  have hl : E.2.1 o2 k2 < H.size := (Array.getElem?_eq_some_iff.mp hc1).1
  have hheap : ((T.setVm vm').setCell (E.2.1 o2 k2) (vp_cell (E.2.2.1 5) (40, .inr (.inr (.inr (.inr (va_cpy (fo o1) (fo o2) 0 0 40))))))).heap = H.setIfInBounds (E.2.1 o2 k2) (vp_cell (E.2.2.1 5) (40, .inr (.inr (.inr (.inr (va_cpy (fo o1) (fo o2) 0 0 40)))))) := by rw [← hT]; rfl
  have oq : ∀ q : Nat, q ≠ E.2.1 o2 k2 → (H.setIfInBounds (E.2.1 o2 k2) (vp_cell (E.2.2.1 5) (40, .inr (.inr (.inr (.inr (va_cpy (fo o1) (fo o2) 0 0 40)))))))[q]? = H[q]? := fun q hq => by simp [Array.getElem?_setIfInBounds, Ne.symm hq]
  have hP1 := hP.1.set (e := .inl (E.2.2.1 5, 40, .inr (.inr (.inr (.inr (va_cpy (fo o1) (fo o2) 0 0 40)))))) (H1 := H.setIfInBounds (E.2.1 o2 k2) (vp_cell (E.2.2.1 5) (40, .inr (.inr (.inr (.inr (va_cpy (fo o1) (fo o2) 0 0 40))))))) hP.2.1 hq1 (show (H.setIfInBounds (E.2.1 o2 k2) _)[E.2.1 o2 k2]? = some (vp_cell (E.2.2.1 5) (40, .inr (.inr (.inr (.inr (va_cpy (fo o1) (fo o2) 0 0 40)))))) by rw [Array.getElem?_setIfInBounds, if_pos rfl, if_pos hl]) oq
  have hD1 := hP.2.1.set hq1 (e := .inl (E.2.2.1 5, 40, .inr (.inr (.inr (.inr (va_cpy (fo o1) (fo o2) 0 0 40))))))
  rw [hu _ (va_cpy (S.2.2.2.2 o1) (S.2.2.2.2 o2) 0 0 40)] at hP1 hD1
  obtain ⟨t, a1, b1⟩ := kk _ _ ⟨hP1, hD1, fun o' i' r' hr' => by
      by_cases e2 : o' = o2
      · subst e2
        have hr1 : va_cpy (S.2.2.2.2 o1) (S.2.2.2.2 o') 0 0 40 i' = some r' := by simpa [jf_setO] using hr'
        show ∃ a_1, (jf_up fo o' (va_cpy (fo o1) (fo o') 0 0 40)) o' i' = some a_1 ∧ _
        unfold va_cpy at hr1
        split at hr1
        · rename_i hc
          obtain ⟨b, g1, g2⟩ := hP.2.2.1 o1 _ r' hr1
          exact ⟨b, by simp only [jf_up, va_cpy, if_true, if_pos hc]; exact g1, g2⟩
        · rename_i hc
          obtain ⟨b, g1, g2⟩ := hP.2.2.1 o' _ r' hr1
          exact ⟨b, by simp only [jf_up, va_cpy, if_true, if_neg hc]; exact g1, g2⟩
      · have hr1 : S.2.2.2.2 o' i' = some r' := by simpa [jf_setO, e2] using hr'
        obtain ⟨b, g1, g2⟩ := hP.2.2.1 o' i' r' hr1
        exact ⟨b, by simp [jf_up, e2, g1], g2⟩, fun o' i' hr' => by
      by_cases e2 : o' = o2
      · subst e2
        have hr1 : va_cpy (S.2.2.2.2 o1) (S.2.2.2.2 o') 0 0 40 i' = none := by simpa [jf_setO] using hr'
        unfold va_cpy at hr1
        split at hr1
        · rename_i hc
          have := hP.2.2.2 o1 _ hr1
          simp only [jf_up, va_cpy, if_true, if_pos hc]; exact this
        · rename_i hc
          have := hP.2.2.2 o' _ hr1
          simp only [jf_up, va_cpy, if_true, if_neg hc]; exact this
      · have hr1 : S.2.2.2.2 o' i' = none := by simpa [jf_setO, e2] using hr'
        have := hP.2.2.2 o' i' hr1
        simp [jf_up, e2, this]⟩ ⟨by simp; exact hS.1, fun q g1 g2 => by
      rw [oq q (fun e => g2 (by rw [e]; exact hP.2.1.2 q1 _ hq1))]
      exact hS.2.1 q g1 g2, fun q hq => by
      rcases List.mem_append.mp hq with h | h
      · exact hS.2.2 q h
      · obtain ⟨z, -, hz⟩ := List.mem_map.mp h
        rw [← hz]
        exact hP.2.1.2 q1 _ hq1⟩ _ hheap X'
  exact ⟨t, step t a1, b1⟩
end
