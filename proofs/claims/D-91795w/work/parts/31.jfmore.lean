set_option maxRecDepth 100000
def jx_ge {α : Type} (x y : Int32) (k : Option α) : Option α := if x = y then k else none
theorem jx_ge_some {α : Type} {x y : Int32} {k : Option α} {r : α} (h : jx_ge x y k = some r) : x = y ∧ k = some r := by
  unfold jx_ge at h
  by_cases c : x = y
  · rw [if_pos c] at h; exact ⟨c, h⟩
  · rw [if_neg c] at h; cases h
def jx_gb {α : Type} (f : Nat → Int32) (n : Nat) (k : Option α) : Option α := if ∀ i, i < n → f i = 0 ∨ f i = 1 then k else none
theorem jx_gb_some {α : Type} {f : Nat → Int32} {n : Nat} {k : Option α} {r : α} (h : jx_gb f n k = some r) : (∀ i, i < n → f i = 0 ∨ f i = 1) ∧ k = some r := by
  unfold jx_gb at h
  by_cases c : ∀ i, i < n → f i = 0 ∨ f i = 1
  · rw [if_pos c] at h; exact ⟨c, h⟩
  · rw [if_neg c] at h; cases h
def jf_G (go gk : Nat) : Prop := (go = 3 ∧ gk = 1) ∨ (go = 0 ∧ gk = 6)
theorem jf_aG {E : jf_E} {S : jf_S} {fo : Nat → Nat → Option Nat} {pl : va_W} {go gk : Nat} (h : jf_G go gk) : jf_AI E S fo pl go gk 40 0 := by
  rcases h with ⟨rfl, rfl⟩ | ⟨rfl, rfl⟩
  · exact jf_aP1 (Or.inl rfl)
  · exact jf_a0_6
theorem jo_f0 {E : jf_E} {S : jf_S} {fo : Nat → Nat → Option Nat} {pl : va_W} {a : Nat} {r : jo_R} (h : jo_m0 pl a r) : ∃ (q b : Nat) (w : Value), (jf_ws E S fo pl)[q]? = some (a, .inr (6, [.int (r 1), .int (r 5), .int (r 8), .ref b, w])) ∧ jo_atom pl b (r 6) ∧ (¬ r 8 = 0 → ∃ d : Nat, w = .ref d ∧ jo_atom pl d (r 7)) := by
  obtain ⟨b, w, h1, h2, h3⟩ := h
  obtain ⟨q, hq⟩ := jf_pool (E := E) (S := S) (fo := fo) h1
  exact ⟨q, b, w, hq, h2, h3⟩
theorem jo_f3 {E : jf_E} {S : jf_S} {fo : Nat → Nat → Option Nat} {pl : va_W} {a : Nat} {r : jo_R} (h : jo_m3 pl a r) : ∃ q b d : Nat, (jf_ws E S fo pl)[q]? = some (a, .inr (9, [.int (r 1), .ref b, .ref d, .int (r 8), .int (r 4)])) ∧ jo_atom pl b (r 6) ∧ jo_atom pl d (r 7) := by
  obtain ⟨b, d, h1, h2, h3⟩ := h
  obtain ⟨q, hq⟩ := jf_pool (E := E) (S := S) (fo := fo) h1
  exact ⟨q, b, d, hq, h2, h3⟩
theorem jo_f8 {E : jf_E} {S : jf_S} {fo : Nat → Nat → Option Nat} {pl : va_W} {a : Nat} {r : jo_R} (h : jo_m8 pl a r) : ∃ q b : Nat, (jf_ws E S fo pl)[q]? = some (a, .inr (14, [.int (r 1), .ref b])) ∧ jo_atom pl b (r 6) := by
  obtain ⟨b, h1, h2⟩ := h
  obtain ⟨q, hq⟩ := jf_pool (E := E) (S := S) (fo := fo) h1
  exact ⟨q, b, hq, h2⟩
theorem jo_is0 {pl : va_W} {a : Nat} {r : jo_R} (h : jo_Is pl a r) (e : r 0 = nI 0) : jo_m0 pl a r := by
  rcases h with ⟨e0, h⟩ | ⟨e1, h⟩ | ⟨e2, h⟩ | ⟨e3, h⟩ | ⟨e4, h⟩ | ⟨e5, h⟩ | ⟨e6, h⟩ | ⟨e7, h⟩ | ⟨e8, h⟩ | ⟨e9, h⟩
  · exact h
  · exact absurd (e.symm.trans e1) (by decide)
  · exact absurd (e.symm.trans e2) (by decide)
  · exact absurd (e.symm.trans e3) (by decide)
  · exact absurd (e.symm.trans e4) (by decide)
  · exact absurd (e.symm.trans e5) (by decide)
  · exact absurd (e.symm.trans e6) (by decide)
  · exact absurd (e.symm.trans e7) (by decide)
  · exact absurd (e.symm.trans e8) (by decide)
  · exact absurd (e.symm.trans e9) (by decide)
theorem jo_is1 {pl : va_W} {a : Nat} {r : jo_R} (h : jo_Is pl a r) (e : r 0 = nI 1) : jo_m1 pl a r := by
  rcases h with ⟨e0, h⟩ | ⟨e1, h⟩ | ⟨e2, h⟩ | ⟨e3, h⟩ | ⟨e4, h⟩ | ⟨e5, h⟩ | ⟨e6, h⟩ | ⟨e7, h⟩ | ⟨e8, h⟩ | ⟨e9, h⟩
  · exact absurd (e.symm.trans e0) (by decide)
  · exact h
  · exact absurd (e.symm.trans e2) (by decide)
  · exact absurd (e.symm.trans e3) (by decide)
  · exact absurd (e.symm.trans e4) (by decide)
  · exact absurd (e.symm.trans e5) (by decide)
  · exact absurd (e.symm.trans e6) (by decide)
  · exact absurd (e.symm.trans e7) (by decide)
  · exact absurd (e.symm.trans e8) (by decide)
  · exact absurd (e.symm.trans e9) (by decide)
theorem jo_is2 {pl : va_W} {a : Nat} {r : jo_R} (h : jo_Is pl a r) (e : r 0 = nI 2) : jo_m2 pl a r := by
  rcases h with ⟨e0, h⟩ | ⟨e1, h⟩ | ⟨e2, h⟩ | ⟨e3, h⟩ | ⟨e4, h⟩ | ⟨e5, h⟩ | ⟨e6, h⟩ | ⟨e7, h⟩ | ⟨e8, h⟩ | ⟨e9, h⟩
  · exact absurd (e.symm.trans e0) (by decide)
  · exact absurd (e.symm.trans e1) (by decide)
  · exact h
  · exact absurd (e.symm.trans e3) (by decide)
  · exact absurd (e.symm.trans e4) (by decide)
  · exact absurd (e.symm.trans e5) (by decide)
  · exact absurd (e.symm.trans e6) (by decide)
  · exact absurd (e.symm.trans e7) (by decide)
  · exact absurd (e.symm.trans e8) (by decide)
  · exact absurd (e.symm.trans e9) (by decide)
theorem jo_is3 {pl : va_W} {a : Nat} {r : jo_R} (h : jo_Is pl a r) (e : r 0 = nI 3) : jo_m3 pl a r := by
  rcases h with ⟨e0, h⟩ | ⟨e1, h⟩ | ⟨e2, h⟩ | ⟨e3, h⟩ | ⟨e4, h⟩ | ⟨e5, h⟩ | ⟨e6, h⟩ | ⟨e7, h⟩ | ⟨e8, h⟩ | ⟨e9, h⟩
  · exact absurd (e.symm.trans e0) (by decide)
  · exact absurd (e.symm.trans e1) (by decide)
  · exact absurd (e.symm.trans e2) (by decide)
  · exact h
  · exact absurd (e.symm.trans e4) (by decide)
  · exact absurd (e.symm.trans e5) (by decide)
  · exact absurd (e.symm.trans e6) (by decide)
  · exact absurd (e.symm.trans e7) (by decide)
  · exact absurd (e.symm.trans e8) (by decide)
  · exact absurd (e.symm.trans e9) (by decide)
theorem jo_is4 {pl : va_W} {a : Nat} {r : jo_R} (h : jo_Is pl a r) (e : r 0 = nI 4) : jo_m4 pl a r := by
  rcases h with ⟨e0, h⟩ | ⟨e1, h⟩ | ⟨e2, h⟩ | ⟨e3, h⟩ | ⟨e4, h⟩ | ⟨e5, h⟩ | ⟨e6, h⟩ | ⟨e7, h⟩ | ⟨e8, h⟩ | ⟨e9, h⟩
  · exact absurd (e.symm.trans e0) (by decide)
  · exact absurd (e.symm.trans e1) (by decide)
  · exact absurd (e.symm.trans e2) (by decide)
  · exact absurd (e.symm.trans e3) (by decide)
  · exact h
  · exact absurd (e.symm.trans e5) (by decide)
  · exact absurd (e.symm.trans e6) (by decide)
  · exact absurd (e.symm.trans e7) (by decide)
  · exact absurd (e.symm.trans e8) (by decide)
  · exact absurd (e.symm.trans e9) (by decide)
theorem jo_is5 {pl : va_W} {a : Nat} {r : jo_R} (h : jo_Is pl a r) (e : r 0 = nI 5) : jo_m5 pl a r := by
  rcases h with ⟨e0, h⟩ | ⟨e1, h⟩ | ⟨e2, h⟩ | ⟨e3, h⟩ | ⟨e4, h⟩ | ⟨e5, h⟩ | ⟨e6, h⟩ | ⟨e7, h⟩ | ⟨e8, h⟩ | ⟨e9, h⟩
  · exact absurd (e.symm.trans e0) (by decide)
  · exact absurd (e.symm.trans e1) (by decide)
  · exact absurd (e.symm.trans e2) (by decide)
  · exact absurd (e.symm.trans e3) (by decide)
  · exact absurd (e.symm.trans e4) (by decide)
  · exact h
  · exact absurd (e.symm.trans e6) (by decide)
  · exact absurd (e.symm.trans e7) (by decide)
  · exact absurd (e.symm.trans e8) (by decide)
  · exact absurd (e.symm.trans e9) (by decide)
theorem jo_is6 {pl : va_W} {a : Nat} {r : jo_R} (h : jo_Is pl a r) (e : r 0 = nI 6) : jo_m6 pl a r := by
  rcases h with ⟨e0, h⟩ | ⟨e1, h⟩ | ⟨e2, h⟩ | ⟨e3, h⟩ | ⟨e4, h⟩ | ⟨e5, h⟩ | ⟨e6, h⟩ | ⟨e7, h⟩ | ⟨e8, h⟩ | ⟨e9, h⟩
  · exact absurd (e.symm.trans e0) (by decide)
  · exact absurd (e.symm.trans e1) (by decide)
  · exact absurd (e.symm.trans e2) (by decide)
  · exact absurd (e.symm.trans e3) (by decide)
  · exact absurd (e.symm.trans e4) (by decide)
  · exact absurd (e.symm.trans e5) (by decide)
  · exact h
  · exact absurd (e.symm.trans e7) (by decide)
  · exact absurd (e.symm.trans e8) (by decide)
  · exact absurd (e.symm.trans e9) (by decide)
theorem jo_is7 {pl : va_W} {a : Nat} {r : jo_R} (h : jo_Is pl a r) (e : r 0 = nI 7) : jo_m7 pl a r := by
  rcases h with ⟨e0, h⟩ | ⟨e1, h⟩ | ⟨e2, h⟩ | ⟨e3, h⟩ | ⟨e4, h⟩ | ⟨e5, h⟩ | ⟨e6, h⟩ | ⟨e7, h⟩ | ⟨e8, h⟩ | ⟨e9, h⟩
  · exact absurd (e.symm.trans e0) (by decide)
  · exact absurd (e.symm.trans e1) (by decide)
  · exact absurd (e.symm.trans e2) (by decide)
  · exact absurd (e.symm.trans e3) (by decide)
  · exact absurd (e.symm.trans e4) (by decide)
  · exact absurd (e.symm.trans e5) (by decide)
  · exact absurd (e.symm.trans e6) (by decide)
  · exact h
  · exact absurd (e.symm.trans e8) (by decide)
  · exact absurd (e.symm.trans e9) (by decide)
theorem jo_is8 {pl : va_W} {a : Nat} {r : jo_R} (h : jo_Is pl a r) (e : r 0 = nI 8) : jo_m8 pl a r := by
  rcases h with ⟨e0, h⟩ | ⟨e1, h⟩ | ⟨e2, h⟩ | ⟨e3, h⟩ | ⟨e4, h⟩ | ⟨e5, h⟩ | ⟨e6, h⟩ | ⟨e7, h⟩ | ⟨e8, h⟩ | ⟨e9, h⟩
  · exact absurd (e.symm.trans e0) (by decide)
  · exact absurd (e.symm.trans e1) (by decide)
  · exact absurd (e.symm.trans e2) (by decide)
  · exact absurd (e.symm.trans e3) (by decide)
  · exact absurd (e.symm.trans e4) (by decide)
  · exact absurd (e.symm.trans e5) (by decide)
  · exact absurd (e.symm.trans e6) (by decide)
  · exact absurd (e.symm.trans e7) (by decide)
  · exact h
  · exact absurd (e.symm.trans e9) (by decide)
theorem jo_is9 {pl : va_W} {a : Nat} {r : jo_R} (h : jo_Is pl a r) (e : r 0 = nI 9) : jo_m9 pl a r := by
  rcases h with ⟨e0, h⟩ | ⟨e1, h⟩ | ⟨e2, h⟩ | ⟨e3, h⟩ | ⟨e4, h⟩ | ⟨e5, h⟩ | ⟨e6, h⟩ | ⟨e7, h⟩ | ⟨e8, h⟩ | ⟨e9, h⟩
  · exact absurd (e.symm.trans e0) (by decide)
  · exact absurd (e.symm.trans e1) (by decide)
  · exact absurd (e.symm.trans e2) (by decide)
  · exact absurd (e.symm.trans e3) (by decide)
  · exact absurd (e.symm.trans e4) (by decide)
  · exact absurd (e.symm.trans e5) (by decide)
  · exact absurd (e.symm.trans e6) (by decide)
  · exact absurd (e.symm.trans e7) (by decide)
  · exact absurd (e.symm.trans e8) (by decide)
  · exact h
theorem jo_any {E : jf_E} {S : jf_S} {fo : Nat → Nat → Option Nat} {pl : va_W} {a : Nat} {r : jo_R} (h : jo_Is pl a r) : ∃ (q ci : Nat) (fs : List Value), (jf_ws E S fo pl)[q]? = some (a, .inr (ci, fs)) ∧ 6 ≤ ci ∧ ci ≤ 15 ∧ fs[0]? = some (.int (r 1)) := by
  rcases h with ⟨e, h⟩ | ⟨e, h⟩ | ⟨e, h⟩ | ⟨e, h⟩ | ⟨e, h⟩ | ⟨e, h⟩ | ⟨e, h⟩ | ⟨e, h⟩ | ⟨e, h⟩ | ⟨e, h⟩
  · obtain ⟨q, b, w, h1, -, -⟩ := jo_f0 (E := E) (S := S) (fo := fo) h
    exact ⟨q, _, _, h1, by decide, by decide, rfl⟩
  · obtain ⟨q, h1⟩ := jf_pool (E := E) (S := S) (fo := fo) h
    exact ⟨q, _, _, h1, by decide, by decide, rfl⟩
  · obtain ⟨q, h1⟩ := jf_pool (E := E) (S := S) (fo := fo) h
    exact ⟨q, _, _, h1, by decide, by decide, rfl⟩
  · obtain ⟨q, b, d, h1, -, -⟩ := jo_f3 (E := E) (S := S) (fo := fo) h
    exact ⟨q, _, _, h1, by decide, by decide, rfl⟩
  · obtain ⟨q, h1⟩ := jf_pool (E := E) (S := S) (fo := fo) h
    exact ⟨q, _, _, h1, by decide, by decide, rfl⟩
  · obtain ⟨q, h1⟩ := jf_pool (E := E) (S := S) (fo := fo) h
    exact ⟨q, _, _, h1, by decide, by decide, rfl⟩
  · obtain ⟨q, h1⟩ := jf_pool (E := E) (S := S) (fo := fo) h
    exact ⟨q, _, _, h1, by decide, by decide, rfl⟩
  · obtain ⟨q, h1⟩ := jf_pool (E := E) (S := S) (fo := fo) h
    exact ⟨q, _, _, h1, by decide, by decide, rfl⟩
  · obtain ⟨q, b, h1, -⟩ := jo_f8 (E := E) (S := S) (fo := fo) h
    exact ⟨q, _, _, h1, by decide, by decide, rfl⟩
  · obtain ⟨q, h1⟩ := jf_pool (E := E) (S := S) (fo := fo) h
    exact ⟨q, _, _, h1, by decide, by decide, rfl⟩

theorem jf_lwO {own : String} {idx : Nat} {C owner : String} {x y : MethodName} {b : ByteArray} {L : Nat} {r : Option FieldType} (h1 : Cond.methodLink own idx x ∈ lw_all) (h2 : Cond.sameMethod x.cls owner x.name x.desc ∈ lw_all) (h3 : Cond.instanceMethod ⟨owner, x.name, x.desc⟩ ∈ lw_all) (h4 : Cond.selects C x y ∈ lw_all) (h5 : Cond.instanceMethod y ∈ lw_all) (h6 : Cond.initialized y.cls ∈ lw_all) (h7 : Cond.code y b L r ∈ lw_all) : GoodIn lw_all (va_wsO own idx C owner x y (ws_ y b L r)) := by
  refine lw_app ?_ (lw_meth h7)
  intro w hw
  simp only [List.mem_cons, List.not_mem_nil, or_false] at hw
  rcases hw with e | e | e | e | e | e
  · rw [e]; exact h1
  · rw [e]; exact h2
  · rw [e]; exact h3
  · rw [e]; exact h4
  · rw [e]; exact h5
  · rw [e]; exact h6
theorem jf_lwU {own : String} {idx : Nat} {C owner : String} {x y : MethodName} {b : ByteArray} {L : Nat} {r : Option FieldType} (h1 : Cond.methodLink own idx x ∈ lw_all) (h2 : Cond.sameMethod x.cls owner x.name x.desc ∈ lw_all) (h4 : Cond.selects C x y ∈ lw_all) (h5 : Cond.instanceMethod y ∈ lw_all) (h6 : Cond.initialized y.cls ∈ lw_all) (h7 : Cond.code y b L r ∈ lw_all) : GoodIn lw_all (va_wsU own idx C owner x y (ws_ y b L r)) := by
  refine lw_app ?_ (lw_meth h7)
  intro w hw
  simp only [List.mem_cons, List.not_mem_nil, or_false] at hw
  rcases hw with e | e | e | e | e
  · rw [e]; exact h1
  · rw [e]; exact h2
  · rw [e]; exact h4
  · rw [e]; exact h5
  · rw [e]; exact h6
theorem jf_sup_g : GoodIn lw_all (va_wsSU RX15 23 yX13_does (ws_ yX13_does cX13_does 3 (some .int))) := by
  refine lw_app ?_ (lw_meth q629)
  intro w hw
  simp only [List.mem_cons, List.not_mem_nil, or_false] at hw
  rcases hw with e | e | e | e | e
  · rw [e]; exact q626
  · rw [e]; exact q2114
  · rw [e]; exact q627
  · rw [e]; exact q628
  · rw [e]; exact q121

section
variable {p : Program} {l : Launch} {e : Env} {R : Room} {s : State} {m : MethodId} {args : Array Value} {below : List Frame} {meth : Method} {c : Code} {H : Heap} {locs : List Loc} {Q : State → Prop} {pc : Nat} {ls : Array Slot} {rest : List Value} {A : Nat → Prop} {D : va_G} {E : jf_E} {fo : Nat → Nat → Option Nat} {pl : va_W} {cc : ByteArray} {S S1 : jf_S} {own host : String} {T : u_T} {N ci cells slots : Nat}
/-- an order's entry, whatever its class -/
theorem jf_entry {ix a : Nat} {r : jo_R} (hx : p.tables.exec = Jvm.exec) (hb : c.code = cc) (hts : ∀ w ∈ lw_all, w.before args s = true) (hown : s.vm.findClass own = some m.cls) (hV : jf_V D E A s) (hP : jf_P D E A S fo pl H) (h : jo_Is pl a r) (hl : (Cond.fieldLinkNest own ix "JumpFence$Order" "entry" "I" host).before args s = true) (hdg : decode cc pc = .ok (.getfield ix, 3))
    (kk : W p l e R s m args below meth c H locs 0 0 Q (F0 m (pc + 3) ls (.int (r 1) :: rest))) : W p l e R s m args below meth c H locs 0 0 Q (F0 m pc ls (.ref a :: rest)) := by
  rcases h with ⟨e, h⟩ | ⟨e, h⟩ | ⟨e, h⟩ | ⟨e, h⟩ | ⟨e, h⟩ | ⟨e, h⟩ | ⟨e, h⟩ | ⟨e, h⟩ | ⟨e, h⟩ | ⟨e, h⟩
  · obtain ⟨q, b, w, h1, -, -⟩ := jo_f0 (E := E) (S := S) (fo := fo) h
    exact jf_getN hx hb hts in_X9 hown hV hP (ci := 6) (k := 0) h1 rfl (by decide) hl rfl rfl hdg kk
  · obtain ⟨q, h1⟩ := jf_pool (E := E) (S := S) (fo := fo) h
    exact jf_getN hx hb hts in_X10 hown hV hP (ci := 7) (k := 0) h1 rfl (by decide) hl rfl rfl hdg kk
  · obtain ⟨q, h1⟩ := jf_pool (E := E) (S := S) (fo := fo) h
    exact jf_getN hx hb hts in_X11 hown hV hP (ci := 8) (k := 0) h1 rfl (by decide) hl rfl rfl hdg kk
  · obtain ⟨q, b, d, h1, -, -⟩ := jo_f3 (E := E) (S := S) (fo := fo) h
    exact jf_getN hx hb hts in_X12 hown hV hP (ci := 9) (k := 0) h1 rfl (by decide) hl rfl rfl hdg kk
  · obtain ⟨q, h1⟩ := jf_pool (E := E) (S := S) (fo := fo) h
    exact jf_getN hx hb hts in_X13 hown hV hP (ci := 10) (k := 0) h1 rfl (by decide) hl rfl rfl hdg kk
  · obtain ⟨q, h1⟩ := jf_pool (E := E) (S := S) (fo := fo) h
    exact jf_getN hx hb hts in_X14 hown hV hP (ci := 11) (k := 0) h1 rfl (by decide) hl rfl rfl hdg kk
  · obtain ⟨q, h1⟩ := jf_pool (E := E) (S := S) (fo := fo) h
    exact jf_getN hx hb hts in_X15 hown hV hP (ci := 12) (k := 0) h1 rfl (by decide) hl rfl rfl hdg kk
  · obtain ⟨q, h1⟩ := jf_pool (E := E) (S := S) (fo := fo) h
    exact jf_getN hx hb hts in_X16 hown hV hP (ci := 13) (k := 0) h1 rfl (by decide) hl rfl rfl hdg kk
  · obtain ⟨q, b, h1, -⟩ := jo_f8 (E := E) (S := S) (fo := fo) h
    exact jf_getN hx hb hts in_X17 hown hV hP (ci := 14) (k := 0) h1 rfl (by decide) hl rfl rfl hdg kk
  · obtain ⟨q, h1⟩ := jf_pool (E := E) (S := S) (fo := fo) h
    exact jf_getN hx hb hts in_X18 hown hV hP (ci := 15) (k := 0) h1 rfl (by decide) hl rfl rfl hdg kk
/-- a field of a ThroughOrder's, or of its heir's -/
theorem jf_getT {ix a k : Nat} {r : jo_R} {v : Value} (hx : p.tables.exec = Jvm.exec) (hb : c.code = cc) (hts : ∀ w ∈ lw_all, w.before args s = true) (hown : s.vm.findClass own = some m.cls) (hV : jf_V D E A s) (hP : jf_P D E A S fo pl H) (h : jo_mT pl a r) (hk : k < 3) (hl : (Cond.fieldLink own ix RX13 (TX13 k).2.1 (TX13 k).2.2.1).before args s = true) (hs : (TX13 k).1 = RX13) (hv : [Value.int (r 1), .int (r 5), .int (r 3)][k]? = some v) (hdg : decode cc pc = .ok (.getfield ix, 3))
    (kk : W p l e R s m args below meth c H locs 0 0 Q (F0 m (pc + 3) ls (v :: rest))) : W p l e R s m args below meth c H locs 0 0 Q (F0 m pc ls (.ref a :: rest)) := by
  rcases h with h | h
  · obtain ⟨q, h1⟩ := jf_pool (E := E) (S := S) (fo := fo) h
    exact jf_get hx hb hts in_X13 hown hV hP (ci := 10) (k := k) h1 rfl hk hl hs hv hdg kk
  · obtain ⟨q, h1⟩ := jf_pool (E := E) (S := S) (fo := fo) h
    have e3 : TX15 = TX13 := by funext j; unfold TX15 TX13; rfl
    exact jf_get hx hb hts in_X15 hown hV hP (ci := 12) (k := k) h1 rfl hk (by rw [e3]; exact hl) (by rw [e3]; exact hs) hv hdg kk
theorem jf_copyi {ix o1 k1 o2 k2 n0 n1 n : Nat} {nn : Int32} (hx : p.tables.exec = Jvm.exec) (hb : c.code = cc) (hml : c.maxLocals = ls.size) (hown : s.vm.findClass own = some m.cls) (hlink : (Cond.methodLink own ix arraycopyName).before args s = true) (hts : ∀ w ∈ lw_all, w.before args s = true) (hV : jf_V D E A s) (hP : jf_P D E A S fo pl H) (hS : va_S A s.heap H locs) (ha0 : jf_AI E S fo pl o1 k1 n0 0) (ha1 : jf_AI E S fo pl o2 k2 n1 0) (eS : S1 = jf_setA S o2 k2 (va_cpy (S.2.2.1 o1 k1) (S.2.2.1 o2 k2) 0 0 n)) (en : nn.toNatClampNeg = n) (h3 : ¬ nn < 0) (h4 : n ≤ n0 ∧ n ≤ n1) (hframes : 1 ≤ R.frames) (hlocals : (rest.map fun v => v.category).sum + (nativeFrameWords "java/lang/System" "arraycopy" 5 + 11) ≤ R.locals) (hdg : decode cc pc = .ok (.invokestatic ix, 3))
    (kk : ∀ (H : Heap) (locs : List Loc), jf_P D E A S1 fo pl H → va_S A s.heap H locs → W p l e R s m args below meth c H locs 0 0 Q (F0 m (pc + 3) ls rest)) : W p l e R s m args below meth c H locs 0 0 Q (F0 m pc ls (.int nn :: .int (nI 0) :: .ref (E.2.1 o2 k2) :: .int (nI 0) :: .ref (E.2.1 o1 k1) :: rest)) := by
  obtain ⟨q0, hq0, -⟩ := ha0
  obtain ⟨q1, hq1, hu⟩ := ha1
  subst en
  refine va_copyi hx hb hml hown hlink (hts _ q735) (hts _ q734) (hts _ q134) hV.1 hP.1 hP.2.1 hS q0 q1 0 0 (ty := .int) hq0 hq1 rfl rfl rfl (by decide) (by decide) h3 (by rw [show (nI 0).toNatClampNeg = 0 from by decide, Nat.zero_add]; exact h4.1) (by rw [show (nI 0).toNatClampNeg = 0 from by decide, Nat.zero_add]; exact h4.2) (fun i hi => rfl) hframes hlocals hdg (fun H1 l1 hP1 hD1 hS1 => ?_)
  rw [hu, show (nI 0).toNatClampNeg = 0 from by decide, ← eS] at hP1 hD1
  exact kk H1 l1 ⟨hP1, hD1, by rw [eS]; exact hP.2.2⟩ hS1
theorem jf_copyz {ix o1 k1 o2 k2 n0 n1 n : Nat} {nn : Int32} (hx : p.tables.exec = Jvm.exec) (hb : c.code = cc) (hml : c.maxLocals = ls.size) (hown : s.vm.findClass own = some m.cls) (hlink : (Cond.methodLink own ix arraycopyName).before args s = true) (hts : ∀ w ∈ lw_all, w.before args s = true) (hV : jf_V D E A s) (hP : jf_P D E A S fo pl H) (hS : va_S A s.heap H locs) (ha0 : jf_AI E S fo pl o1 k1 n0 2) (ha1 : jf_AI E S fo pl o2 k2 n1 2) (hz : ∀ i, i < n → S.2.2.1 o1 k1 i = 0 ∨ S.2.2.1 o1 k1 i = 1) (eS : S1 = jf_setA S o2 k2 (va_cpy (S.2.2.1 o1 k1) (S.2.2.1 o2 k2) 0 0 n)) (en : nn.toNatClampNeg = n) (h3 : ¬ nn < 0) (h4 : n ≤ n0 ∧ n ≤ n1) (hframes : 1 ≤ R.frames) (hlocals : (rest.map fun v => v.category).sum + (nativeFrameWords "java/lang/System" "arraycopy" 5 + 11) ≤ R.locals) (hdg : decode cc pc = .ok (.invokestatic ix, 3))
    (kk : ∀ (H : Heap) (locs : List Loc), jf_P D E A S1 fo pl H → va_S A s.heap H locs → W p l e R s m args below meth c H locs 0 0 Q (F0 m (pc + 3) ls rest)) : W p l e R s m args below meth c H locs 0 0 Q (F0 m pc ls (.int nn :: .int (nI 0) :: .ref (E.2.1 o2 k2) :: .int (nI 0) :: .ref (E.2.1 o1 k1) :: rest)) := by
  obtain ⟨q0, hq0, -⟩ := ha0
  obtain ⟨q1, hq1, hu⟩ := ha1
  subst en
  refine va_copyi hx hb hml hown hlink (hts _ q735) (hts _ q734) (hts _ q134) hV.1 hP.1 hP.2.1 hS q0 q1 2 2 (ty := .boolean) hq0 hq1 rfl rfl rfl (by decide) (by decide) h3 (by rw [show (nI 0).toNatClampNeg = 0 from by decide, Nat.zero_add]; exact h4.1) (by rw [show (nI 0).toNatClampNeg = 0 from by decide, Nat.zero_add]; exact h4.2) (fun i hi => ?_) hframes hlocals hdg (fun H1 l1 hP1 hD1 hS1 => ?_)
  · rw [show (nI 0).toNatClampNeg = 0 from by decide, Nat.zero_add]
    rcases hz i hi with h | h <;> rw [h] <;> rfl
  · rw [hu, show (nI 0).toNatClampNeg = 0 from by decide, ← eS] at hP1 hD1
    exact kk H1 l1 ⟨hP1, hD1, by rw [eS]; exact hP.2.2⟩ hS1
/-- an overriding method, through Order -/
theorem jf_vcallI {out : Int32 × jf_S} {x y : MethodName} {bytes : ByteArray} {maxL nL lv' ix n q0 b : Nat} {rt : Option FieldType} {stk fs : List Value} {C owner : String} (hx : p.tables.exec = Jvm.exec) (hb : c.code = cc) (hml : c.maxLocals = nL) (hown : s.vm.findClass own = some m.cls) (hts : ∀ w ∈ lw_all, w.before args s = true) (hV : jf_V D E A s) {As : List Value} (hM : jf_Mi l D E A fo pl y bytes maxL rt lv' (.ref b :: As) S out) (cu : va_CU R s args own C owner ix x y bytes maxL rt (ws_ y bytes maxL rt) (jx_rm lv') 0 0 n) (hP : jf_P D E A S fo pl H) (hS : va_S A s.heap H locs) (he : (jf_ws E S fo pl)[q0]? = some (b, .inr (ci, fs))) (hc : jx_cl[ci]? = some (C, T, N)) (hls : ls.size = nL) (hn : As.length = n) (hst : stk = As.reverse ++ .ref b :: rest) (hW : 2 * (F0 m pc ls stk).monitorRoom + (rest.map fun v => v.category).sum ≤ 8) (hdg : decode cc pc = .ok (.invokevirtual ix, 3))
    (kk : ∀ (H : Heap) (locs : List Loc), jf_P D E A out.2 fo pl H → va_S A s.heap H locs → W p l e R s m args below meth c H locs 0 0 Q (F0 m (pc + 3) ls (.int out.1 :: rest))) : W p l e R s m args below meth c H locs 0 0 Q (F0 m pc ls stk) := by
  unfold jf_Mi at hM
  refine va_calli (va_runU (As := As) (rest := rest) ⟨hx, hb, hml, hown, hts⟩ hM cu ⟨jf_U.blind, va_recv hV.1 hP.1 (ci := ci) (q0 := q0) hc he, fun U hU hW => ⟨rfl, by rw [hU]; exact hP, hV.moved hW (by rw [hU]; exact hS.1) (fun a h1 h2 => by rw [hU]; exact hS.2.1 a h1 h2)⟩⟩ rfl hn hls hst hW hdg ⟨Nat.zero_le _, Nat.zero_le _⟩) hS (fun _ _ h => h) (fun _ h => h) (fun r u t H1 l1 ht hvm hp hB hz hk hS1 => ?_)
  subst hp
  obtain ⟨hP1, -⟩ := hB
  rw [ht] at hP1
  exact kk H1 l1 hP1 hS1
theorem jf_vcallL {out : Int64 × jf_S} {x y : MethodName} {bytes : ByteArray} {maxL nL lv' ix n q0 b : Nat} {rt : Option FieldType} {stk fs : List Value} {C owner : String} (hx : p.tables.exec = Jvm.exec) (hb : c.code = cc) (hml : c.maxLocals = nL) (hown : s.vm.findClass own = some m.cls) (hts : ∀ w ∈ lw_all, w.before args s = true) (hV : jf_V D E A s) {As : List Value} (hM : jf_Ml l D E A fo pl y bytes maxL rt lv' (.ref b :: As) S out) (cu : va_CU R s args own C owner ix x y bytes maxL rt (ws_ y bytes maxL rt) (jx_rm lv') 0 0 n) (hP : jf_P D E A S fo pl H) (hS : va_S A s.heap H locs) (he : (jf_ws E S fo pl)[q0]? = some (b, .inr (ci, fs))) (hc : jx_cl[ci]? = some (C, T, N)) (hls : ls.size = nL) (hn : As.length = n) (hst : stk = As.reverse ++ .ref b :: rest) (hW : 2 * (F0 m pc ls stk).monitorRoom + (rest.map fun v => v.category).sum ≤ 8) (hdg : decode cc pc = .ok (.invokevirtual ix, 3))
    (kk : ∀ (H : Heap) (locs : List Loc), jf_P D E A out.2 fo pl H → va_S A s.heap H locs → W p l e R s m args below meth c H locs 0 0 Q (F0 m (pc + 3) ls (.long out.1 :: rest))) : W p l e R s m args below meth c H locs 0 0 Q (F0 m pc ls stk) := by
  unfold jf_Ml at hM
  refine va_calll (va_runU (As := As) (rest := rest) ⟨hx, hb, hml, hown, hts⟩ hM cu ⟨jf_U.blind, va_recv hV.1 hP.1 (ci := ci) (q0 := q0) hc he, fun U hU hW => ⟨rfl, by rw [hU]; exact hP, hV.moved hW (by rw [hU]; exact hS.1) (fun a h1 h2 => by rw [hU]; exact hS.2.1 a h1 h2)⟩⟩ rfl hn hls hst hW hdg ⟨Nat.zero_le _, Nat.zero_le _⟩) hS (fun _ _ h => h) (fun _ h => h) (fun r u t H1 l1 ht hvm hp hB hz hk hS1 => ?_)
  subst hp
  obtain ⟨hP1, -⟩ := hB
  rw [ht] at hP1
  exact kk H1 l1 hP1 hS1
/-- ByOrder's super.does -/
theorem jf_callSup {out : Int32 × jf_S} {nL lv b : Nat} {r : jo_R} {stk : List Value} (hx : p.tables.exec = Jvm.exec) (hb : c.code = cc) (hml : c.maxLocals = nL) (hown : s.vm.findClass RX15 = some m.cls) (hts : ∀ w ∈ lw_all, w.before args s = true) (hlv : jx_hr R lv) (hV : jf_V D E A s) {As : List Value} {lv' : Nat} (hM : jf_Mi l D E A fo pl yX13_does cX13_does 3 (some .int) lv' (.ref b :: As) S out) (h1 : lv' + 1 ≤ lv) (hP : jf_P D E A S fo pl H) (hS : va_S A s.heap H locs) (hm : jo_m6 pl b r) (hls : ls.size = nL) (hn : As.length = 2) (hst : stk = As.reverse ++ .ref b :: rest) (hW : 2 * (F0 m pc ls stk).monitorRoom + (rest.map fun v => v.category).sum ≤ 8) (hdg : decode cc pc = .ok (.invokespecial 23, 3))
    (kk : ∀ (H : Heap) (locs : List Loc), jf_P D E A out.2 fo pl H → va_S A s.heap H locs → W p l e R s m args below meth c H locs 0 0 Q (F0 m (pc + 3) ls (.int out.1 :: rest))) : W p l e R s m args below meth c H locs 0 0 Q (F0 m pc ls stk) := by
  unfold jf_Mi at hM
  obtain ⟨q0, he⟩ := jf_pool (E := E) (S := S) (fo := fo) hm
  refine va_calli (va_runSU (As := As) (rest := rest) (C := RX15) (hV.1.1 12 _ rfl).2 ⟨hx, hb, hml, hown, hts⟩ hM (va_cwSU 2 hts jf_sup_g rfl rfl rfl (by decide +kernel) ⟨Nat.le_trans h1 hlv.1, by have := hlv.2; show 8 + (3 + 11) + 40 * lv' ≤ R.locals; omega⟩) ⟨jf_U.blind, va_recv hV.1 hP.1 (ci := 12) (q0 := q0) rfl he, fun U hU hW => ⟨rfl, by rw [hU]; exact hP, hV.moved hW (by rw [hU]; exact hS.1) (fun a h1 h2 => by rw [hU]; exact hS.2.1 a h1 h2)⟩⟩ rfl hn hls hst hW hdg ⟨Nat.zero_le _, Nat.zero_le _⟩) hS (fun _ _ h => h) (fun _ h => h) (fun r u t H1 l1 ht hvm hp hB hz hk hS1 => ?_)
  subst hp
  obtain ⟨hP1, -⟩ := hB
  rw [ht] at hP1
  exact kk H1 l1 hP1 hS1

theorem jx_callSNi {out : Int32} {y : MethodName} {bytes : ByteArray} {maxL nL lv' ix n : Nat} {rt : Option FieldType} {stk : List Value} (hx : p.tables.exec = Jvm.exec) (hb : c.code = cc) (hml : c.maxLocals = nL) (hown : s.vm.findClass own = some m.cls) (hts : ∀ w ∈ lw_all, w.before args s = true) (hnw : va_Nw (.methodLinkNest own ix y host) s) {As : List Value} (hM : jx_Mi l y bytes maxL rt lv' As out) (hcd : Cond.code y bytes maxL rt ∈ lw_all) (hst0 : Cond.static y ∈ lw_all) (hin0 : Cond.initialized y.cls ∈ lw_all) (hd : y.cls ≠ "java/lang/invoke/MethodHandle" ∧ y.cls ≠ "java/lang/invoke/VarHandle" ∧ (parseMethodDescriptor y.desc).map (fun d => d.parameters.length) = some n) (hR : lv' + 1 ≤ R.frames ∧ 8 + (maxL + 11) + 40 * lv' ≤ R.locals) (hls : ls.size = nL) (hn : As.length = n) (hst : stk = As.reverse ++ rest) (hW : 2 * (F0 m pc ls stk).monitorRoom + (rest.map fun v => v.category).sum ≤ 8) (hdg : decode cc pc = .ok (.invokestatic ix, 3)) (hc : cells ≤ R.cells ∧ slots ≤ R.slots)
    (kk : W p l e R s m args below meth c H locs cells slots Q (F0 m (pc + 3) ls (.int out :: rest))) : W p l e R s m args below meth c H locs cells slots Q (F0 m pc ls stk) := by
  unfold jx_Mi at hM
  refine vp_callSi (va_Run.run (va_runSN (As := As) (rest := rest) (own := own) (index := ix) ⟨hx, hb, hml, hown, hts⟩ hM ⟨va_cnB n hts (lw_meth hcd) rfl rfl rfl hnw (hts _ hin0) hd hR, hts _ hst0, trivial⟩ ⟨fun a U g mk h => h, fun U hU hW => ⟨rfl, trivial⟩⟩ rfl hn hls hst hW hdg hc)) (fun r hr => ?_)
  subst hr
  exact kk
theorem jx_callSNl {out : Int64} {y : MethodName} {bytes : ByteArray} {maxL nL lv' ix n : Nat} {rt : Option FieldType} {stk : List Value} (hx : p.tables.exec = Jvm.exec) (hb : c.code = cc) (hml : c.maxLocals = nL) (hown : s.vm.findClass own = some m.cls) (hts : ∀ w ∈ lw_all, w.before args s = true) (hnw : va_Nw (.methodLinkNest own ix y host) s) {As : List Value} (hM : jx_Ml l y bytes maxL rt lv' As out) (hcd : Cond.code y bytes maxL rt ∈ lw_all) (hst0 : Cond.static y ∈ lw_all) (hin0 : Cond.initialized y.cls ∈ lw_all) (hd : y.cls ≠ "java/lang/invoke/MethodHandle" ∧ y.cls ≠ "java/lang/invoke/VarHandle" ∧ (parseMethodDescriptor y.desc).map (fun d => d.parameters.length) = some n) (hR : lv' + 1 ≤ R.frames ∧ 8 + (maxL + 11) + 40 * lv' ≤ R.locals) (hls : ls.size = nL) (hn : As.length = n) (hst : stk = As.reverse ++ rest) (hW : 2 * (F0 m pc ls stk).monitorRoom + (rest.map fun v => v.category).sum ≤ 8) (hdg : decode cc pc = .ok (.invokestatic ix, 3)) (hc : cells ≤ R.cells ∧ slots ≤ R.slots)
    (kk : W p l e R s m args below meth c H locs cells slots Q (F0 m (pc + 3) ls (.long out :: rest))) : W p l e R s m args below meth c H locs cells slots Q (F0 m pc ls stk) := by
  unfold jx_Ml at hM
  refine vp_callSl (va_Run.run (va_runSN (As := As) (rest := rest) (own := own) (index := ix) ⟨hx, hb, hml, hown, hts⟩ hM ⟨va_cnB n hts (lw_meth hcd) rfl rfl rfl hnw (hts _ hin0) hd hR, hts _ hst0, trivial⟩ ⟨fun a U g mk h => h, fun U hU hW => ⟨rfl, trivial⟩⟩ rfl hn hls hst hW hdg hc)) (fun r hr => ?_)
  subst hr
  exact kk
end
theorem jf_nm_X11_15 {s : State} (h : jf_N s) : va_Nw (.methodLinkNest RX11 15 yX1_bit "JumpFence") s := h.2.1 ("JumpFence$JumpOrder", 15, ⟨"JumpFence", "bit", "(I)J"⟩, "JumpFence") (by decide)
theorem jf_nm_X12_25 {s : State} (h : jf_N s) : va_Nw (.methodLinkNest RX12 25 yX1_bit "JumpFence") s := h.2.1 ("JumpFence$IfOrder", 25, ⟨"JumpFence", "bit", "(I)J"⟩, "JumpFence") (by decide)
theorem jf_nm_X14_15 {s : State} (h : jf_N s) : va_Nw (.methodLinkNest RX14 15 yX1_bit "JumpFence") s := h.2.1 ("JumpFence$CallOrder", 15, ⟨"JumpFence", "bit", "(I)J"⟩, "JumpFence") (by decide)
theorem jf_nm_X15_9 {s : State} (h : jf_N s) : va_Nw (.methodLinkNest RX15 9 yX1_bit "JumpFence") s := h.2.1 ("JumpFence$ByOrder", 9, ⟨"JumpFence", "bit", "(I)J"⟩, "JumpFence") (by decide)
theorem jf_nm_X4_89 {s : State} (h : jf_N s) : va_Nw (.methodLinkNest RX4 89 yX1_bit "JumpFence") s := h.2.1 ("JumpFence$Program", 89, ⟨"JumpFence", "bit", "(I)J"⟩, "JumpFence") (by decide)
theorem jf_nm_X8_15 {s : State} (h : jf_N s) : va_Nw (.methodLinkNest RX8 15 yX1_bit "JumpFence") s := h.2.1 ("JumpFence$Order", 15, ⟨"JumpFence", "bit", "(I)J"⟩, "JumpFence") (by decide)
theorem jf_bit_c : Cond.code yX1_bit cX1_bit 1 (some .long) ∈ lw_all := q715
theorem jf_bit_s : Cond.static yX1_bit ∈ lw_all := q714
theorem jf_bit_i : Cond.initialized yX1_bit.cls ∈ lw_all := q102
