section
/-! single bits, bytes, filling an array -/
abbrev ic_B (k : Nat) : Int32 := (1 : Int32) <<< (nI k &&& 31)
theorem ic_bit : ∀ k, k < 16 → ∀ j, j < 16 → (((ic_B k >>> (nI j &&& 31)) &&& 1) = 0 ↔ ¬ k = j) := by decide +kernel
theorem ic_bit0 : ∀ j, j < 16 → (((0 : Int32) >>> (nI j &&& 31)) &&& 1) = 0 := by decide +kernel
theorem ic_and : ∀ k, k < 16 → ∀ j, j < 16 → ¬ k = j → ic_B k &&& ic_B j = 0 := by decide +kernel
theorem ic_out : ∀ k, k < 16 → ∀ j, j < 16 → ¬ k = j → ic_B k &&& (ic_B j ^^^ (-1)) = ic_B k := by decide +kernel
theorem ic_out0 : ∀ k, k < 16 → ic_B k &&& ((0 : Int32) ^^^ (-1)) = ic_B k := by decide +kernel
theorem ic_byte : ∀ k, k < 17 → (nI k).toInt8.toInt32 = nI k := by decide +kernel
theorem ic_0or (x : Int32) : 0 ||| x = x := Int32.zero_or
theorem ic_or0 (x : Int32) : x ||| 0 = x := Int32.or_zero
theorem ic_0and (x : Int32) : 0 &&& x = 0 := Int32.zero_and
theorem ic_10 : ¬ (1 : Int32) = 0 := by decide
theorem ic_cl {n : Nat} (h : n < 16) : (nI n).toNatClampNeg = n := nI_clamp (by omega)
/-- read a place -/
theorem ic_at {a : Nat → Int32} {j : Nat} {x : Int32} (hj : j < 16) (h : a j = x) : a (nI j).toNatClampNeg = x := by
  rw [ic_cl hj]
  exact h
theorem ic_fill {f s : Nat → Int32} {i k : Nat} {x : Int32} (hk : k = i) (h : ∀ j, j < i → s j = f j) (hx : x = f i) : ∀ j, j < i + 1 → upd s k x j = f j := by
  intro j hj
  rw [hk]
  by_cases e : j = i
  · rw [e, pk_us, hx]
  · rw [pk_un e]
    exact h j (by omega)
/-- every place below m holds a vertex -/
def ic_V (n m : Nat) (a : Nat → Int32) : Prop := ∀ j, j < m → ∃ c, c < n ∧ a j = nI c
theorem ic_V0 {n : Nat} {a : Nat → Int32} : ic_V n 0 a := fun j hj => absurd hj (by omega)
theorem ic_Vadd {n m c k : Nat} {a : Nat → Int32} {x : Int32} (h : ic_V n m a) (hk : k = m) (hc : c < n) (hx : x = nI c) : ic_V n (m + 1) (upd a k x) := by
  intro j hj
  rw [hk]
  by_cases e : j = m
  · rw [e, pk_us]
    exact ⟨c, hc, hx⟩
  · rw [pk_un e]
    exact h j (by omega)
end
section
section
variable {a1 a2 a3 a4 a5 a6 a7 a8 a9 : Nat → Int32} {l k : Int32} {n : Nat}
/-! isVertex, leader -/
theorem ic_vok {post : Int32 → Prop} {j : Nat} (hn : n ≤ 16) (hj : j < n) (H : post 1) : wpX_isVertex post (nI n, l, k, a1, a2, a3, a4, a5, a6, a7, a8, a9) (nI j) :=
  br_f (nI_pos (by omega)) (br_f (nI_ge hj (by omega)) H)
theorem ic_vbad {post : Int32 → Prop} {x : Int32} (h : x < 0 ∨ nI n ≤ x) (H : post 0) : wpX_isVertex post (nI n, l, k, a1, a2, a3, a4, a5, a6, a7, a8, a9) x := by
  by_cases g : x < 0
  · exact br_t g H
  · exact br_f g (br_t (h.resolve_left g) H)
theorem ic_leader {post : Int32 → Prop} {j : Nat} (hn : n ≤ 16) (hj : j < n) (h3 : a3 j = nI j) (H : post (nI j)) : wpX_leader post (nI n, l, k, a1, a2, a3, a4, a5, a6, a7, a8, a9) (nI j) := by
  unfold wpX_leader
  refine ic_vok hn hj (br_f ic_10 ⟨pk_in j 16 (by omega), ?_⟩)
  rw [ic_at (by omega) h3]
  exact H
theorem ic_leaderB {post : Int32 → Prop} {x : Int32} (h : x < 0 ∨ nI n ≤ x) (H : post (-1)) : wpX_leader post (nI n, l, k, a1, a2, a3, a4, a5, a6, a7, a8, a9) x := by
  unfold wpX_leader
  exact ic_vbad h (br_t rfl H)
/-! the sets: of one vertex, of none -/
theorem ic_tgt {post : Int32 → Prop} {c : Nat} {p x : Int32} (hn : n ≤ 16) (hc : c < n) (hp : p = ic_B c) (hx : a1 c = x) (H : post x) : wpX_targetsOf post (nI n, l, k, a1, a2, a3, a4, a5, a6, a7, a8, a9) p := by
  subst hp
  refine pk_loop (fun m i s => wX_targetsOf_4 post (ic_B c) (nI n) l k a1 a2 a3 a4 a5 a6 a7 a8 a9 m s (nI i)) (fun i s => s = if c < i then x else 0) n 0 0 (by omega) (by rw [if_neg (by omega)]) ?_ ?_
  · intro m s h
    refine pk_le n n (fun _ => ?_) (fun z => absurd z (by omega))
    rw [h, if_pos hc]
    exact H
  · intro m i s hi h hw
    refine pk_le n i (fun z => absurd z (by omega)) (fun _ => br_c (fun g => nm_r (nI_1 i) (hw _ ?_)) (fun g => ⟨pk_in i 16 (by omega), nm_e (nm_r (nI_1 i) (hw _ ?_))⟩))
    · have e := (ic_bit c (by omega) i (by omega)).mp g
      rw [h]
      by_cases d : c < i
      · rw [if_pos d, if_pos (by omega)]
      · rw [if_neg d, if_neg (by omega)]
    · have e : c = i := Decidable.not_not.mp (fun d => g ((ic_bit c (by omega) i (by omega)).mpr d))
      rw [h, if_neg (by omega), if_pos (by omega), ic_0or, ic_cl (by omega), ← e, hx]
theorem ic_src {post : Int32 → Prop} {c : Nat} {p x : Int32} (hn : n ≤ 16) (hc : c < n) (hp : p = ic_B c) (hx : a2 c = x) (H : post x) : wpX_sourcesOf post (nI n, l, k, a1, a2, a3, a4, a5, a6, a7, a8, a9) p := by
  subst hp
  refine pk_loop (fun m i s => wX_sourcesOf_4 post (ic_B c) (nI n) l k a1 a2 a3 a4 a5 a6 a7 a8 a9 m s (nI i)) (fun i s => s = if c < i then x else 0) n 0 0 (by omega) (by rw [if_neg (by omega)]) ?_ ?_
  · intro m s h
    refine pk_le n n (fun _ => ?_) (fun z => absurd z (by omega))
    rw [h, if_pos hc]
    exact H
  · intro m i s hi h hw
    refine pk_le n i (fun z => absurd z (by omega)) (fun _ => br_c (fun g => nm_r (nI_1 i) (hw _ ?_)) (fun g => ⟨pk_in i 16 (by omega), nm_e (nm_r (nI_1 i) (hw _ ?_))⟩))
    · have e := (ic_bit c (by omega) i (by omega)).mp g
      rw [h]
      by_cases d : c < i
      · rw [if_pos d, if_pos (by omega)]
      · rw [if_neg d, if_neg (by omega)]
    · have e : c = i := Decidable.not_not.mp (fun d => g ((ic_bit c (by omega) i (by omega)).mpr d))
      rw [h, if_neg (by omega), if_pos (by omega), ic_0or, ic_cl (by omega), ← e, hx]
theorem ic_ld0 {post : Int32 → Prop} (hn : n ≤ 16) (H : post 0) : wpX_leadersOf post (nI n, l, k, a1, a2, a3, a4, a5, a6, a7, a8, a9) 0 :=
  pk_loop (σ := Unit) (fun m i _ => wX_leadersOf_4 post 0 (nI n) l k a1 a2 a3 a4 a5 a6 a7 a8 a9 m 0 (nI i)) (fun _ _ => True) n 0 () (by omega) trivial
    (fun m _ _ => pk_le n n (fun _ => H) (fun z => absurd z (by omega)))
    (fun m i _ hi _ hw => pk_le n i (fun z => absurd z (by omega)) (fun _ => br_t (ic_bit0 i (by omega)) (nm_r (nI_1 i) (hw () trivial))))
/-- from v, as far as place u, before the edge's own source has been met: v alone -/
theorem ic_fwd {post : Int32 → Prop} {u v : Nat} (hn : n ≤ 16) (hu : u < n) (hv : v < u) (h1 : a1 v = 0) (h4 : a4 v = ic_B v) (h5 : a5 v = nI v) (h6 : ∀ j, j < n → a6 j = nI j) (H : post (ic_B v)) :
    wpX_forwardUpTo post (nI n, l, k, a1, a2, a3, a4, a5, a6, a7, a8, a9) (nI v) (nI u) := by
  refine nm_e ⟨pk_in v 16 (by omega), nm_r (ic_at (by omega) h5) ?_⟩
  refine pk_loop (σ := Unit) (fun m i _ => wX_forwardUpTo_12 post (nI u) (nI n) l k a1 a2 a3 a4 a5 a6 a7 a8 a9 m (ic_B v) (nI i)) (fun _ _ => True) (u + 1) v () (by omega) trivial ?_ ?_
  · exact fun m _ _ => pk_lt u (u + 1) (fun _ => H) (fun z => absurd z (by omega))
  · intro m i _ hi _ hw
    refine pk_lt u i (fun z => absurd z (by omega)) (fun _ => ⟨pk_in i 16 (by omega), nm_r (ic_at (by omega) (h6 i (by omega))) (br_c (fun g => nm_r (nI_1 i) (hw () trivial)) (fun g => ⟨pk_in i 16 (by omega), ?_⟩))⟩)
    have e : v = i := Decidable.not_not.mp (fun d => g ((ic_bit v (by omega) i (by omega)).mpr d))
    subst e
    exact ic_tgt hn (by omega) (ic_at (by omega) h4) h1 (ic_ld0 hn (nm_r (ic_or0 _) (nm_r (nI_1 v) (hw () trivial))))
/-! cycle -/
theorem ic_cyc {post : Int32 → Prop} {w : Nat} (hn : n ≤ 16) (hw : w < n) (h3 : a3 w = nI w) (h14 : a1 w &&& a4 w = 0) (H : post (-2)) : wpX_cycle post (nI n, l, k, a1, a2, a3, a4, a5, a6, a7, a8, a9) (nI w) := by
  unfold wpX_cycle
  refine ic_vok hn hw (br_f ic_10 ⟨pk_in w 16 (by omega), pk_in w 16 (by omega) (ic_at (by omega) h3), nm_r (e' := a4 w) ?_ ⟨pk_in w 16 (by omega), nm_r (e' := 0) ?_ ⟨1, br_f (by decide) (br_t rfl H)⟩⟩⟩)
  · rw [ic_at (by omega) h3, ic_cl (by omega)]
  · rw [ic_cl (by omega)]
    exact h14
theorem ic_cycB {post : Int32 → Prop} {x : Int32} (h : x < 0 ∨ nI n ≤ x) (H : post (-1)) : wpX_cycle post (nI n, l, k, a1, a2, a3, a4, a5, a6, a7, a8, a9) x := by
  unfold wpX_cycle
  exact ic_vbad h (br_t rfl H)
end
end
section
section
variable {a1 a2 a3 a4 a5 a6 a7 a8 a9 : Nat → Int32} {l k : Int32} {n u v : Nat}
/-! the line: append, adoptLine, the four loops of repairLine -/
theorem ic_app {post : St2 → Prop} {f x : Int32} {m c : Nat} (hm : m < 16) (hc : c < 16) (hx : x = nI c) (H : post (f, l, nI (m + 1), a1, a2, a3, a4, a5, a6, upd a7 m (nI c), a8, a9)) : wpX_append post (f, l, nI m, a1, a2, a3, a4, a5, a6, a7, a8, a9) x := by
  subst hx
  exact ⟨pk_in m 16 hm, nm_r (by rw [ic_cl hm, ic_byte c (by omega)]) (nm_r (nI_1 m) H)⟩
theorem ic_adopt {post : St2 → Prop} (hn : n ≤ 16) (h7 : ic_V n n a7) (H : ∀ b5 b6, (∀ j, j < n → b6 j = a7 j) → post (nI n, nI n, nI n, a1, a2, a3, a4, b5, b6, a7, a8, a9)) : wpX_adoptLine post (nI n, l, nI n, a1, a2, a3, a4, a5, a6, a7, a8, a9) := by
  refine pk_loop (fun m i (s : (Nat → Int32) × (Nat → Int32)) => wX_adoptLine_10 post (nI n) (nI n) (nI n) m (nI i) a1 a2 a3 a4 s.1 s.2 a7 a8 a9) (fun i s => ∀ j, j < i → s.2 j = a7 j) n 0 (a5, a6) (by omega) (fun j hj => absurd hj (by omega)) ?_ ?_
  · exact fun m s h => pk_le n n (fun _ => H _ _ h) (fun z => absurd z (by omega))
  · intro m i s hi h hw
    obtain ⟨c, hc, e⟩ := h7 i hi
    refine pk_le n i (fun z => absurd z (by omega)) (fun _ => ⟨pk_in i 16 (by omega), pk_in i 16 (by omega), nm_r (e' := upd s.2 i (nI c)) ?_ ⟨pk_in i 16 (by omega), pk_in c 16 (by omega) (ic_at (by omega) pk_us), nm_e (nm_r (nI_1 i) (hw (_, _) (ic_fill rfl h e.symm)))⟩⟩)
    rw [ic_at (by omega) e, ic_cl (by omega), vp_nar_byte, ic_byte c (by omega)]
theorem ic_r221 {post : Int32 → St2 → Prop} {x7 : Int32} (hn : n ≤ 16) (hu : u + 1 ≤ n) (h6 : ∀ j, j < n → a6 j = nI j) (h7 : ic_V n (u + 1) a7) (hv : a7 u = nI v) (H : ∀ b5 b6 b7, ic_V n n b6 → b6 u = nI v → post x7 (nI n, nI n, nI n, a1, a2, a3, a4, b5, b6, b7, a8, a9)) :
    ∃ fu, wX_repairLine_221 post x7 fu (nI (u + 1)) (nI n) (nI n) (nI (u + 1)) a1 a2 a3 a4 a5 a6 a7 a8 a9 := by
  refine pk_loop (fun m i s => wX_repairLine_221 post x7 m (nI i) (nI n) (nI n) (nI i) a1 a2 a3 a4 a5 a6 s a8 a9) (fun i s => u < i ∧ ic_V n i s ∧ s u = nI v) n (u + 1) a7 hu ⟨by omega, h7, hv⟩ ?_ ?_
  · intro m s h
    refine pk_le n n (fun _ => ic_adopt hn h.2.1 (fun b5 b6 g => H b5 b6 s (fun j hj => ?_) ?_)) (fun z => absurd z (by omega))
    · rw [g j hj]
      exact h.2.1 j hj
    · rw [g u (by omega)]
      exact h.2.2
  · intro m i s hi h hw
    have h0 := h.1
    refine pk_le n i (fun z => absurd z (by omega)) (fun _ => ⟨pk_in i 16 (by omega), ic_app (by omega) (by omega) (ic_at (by omega) (h6 i hi)) (nm_r (nI_1 i) (hw _ ⟨by omega, ic_Vadd h.2.1 rfl hi rfl, ?_⟩))⟩)
    rw [pk_un (by omega)]
    exact h.2.2
theorem ic_r167 {post : Int32 → St2 → Prop} {x7 : Int32} (hn : n ≤ 16) (hu : u < n) (hv : v < u) (h6 : ∀ j, j < n → a6 j = nI j) (h7 : ic_V n u a7) (H : ∀ b5 b6 b7, ic_V n n b6 → b6 u = nI v → post x7 (nI n, nI n, nI n, a1, a2, a3, a4, b5, b6, b7, a8, a9)) :
    ∃ fu, wX_repairLine_167 post (nI u) (ic_B v) 0 x7 fu (nI v) (nI n) (nI n) (nI u) a1 a2 a3 a4 a5 a6 a7 a8 a9 := by
  have L : ∃ fu, wX_repairLine_167 post (nI u) (ic_B v) 0 x7 fu (nI (v + 1)) (nI n) (nI n) (nI (u + 1)) a1 a2 a3 a4 a5 a6 (upd a7 u (nI v)) a8 a9 := by
    refine pk_loop (σ := Unit) (fun m i _ => wX_repairLine_167 post (nI u) (ic_B v) 0 x7 m (nI i) (nI n) (nI n) (nI (u + 1)) a1 a2 a3 a4 a5 a6 (upd a7 u (nI v)) a8 a9) (fun i _ => v < i) (u + 1) (v + 1) () (by omega) (by omega) ?_ ?_
    · exact fun m _ _ => pk_lt u (u + 1) (fun _ => nm_r (nI_1 u) (ic_r221 hn (by omega) h6 (ic_Vadd h7 rfl (show v < n by omega) rfl) pk_us H)) (fun z => absurd z (by omega))
    · intro m i _ hi h hw
      refine pk_lt u i (fun z => absurd z (by omega)) (fun _ => nm_r (ic_out0 v (by omega)) ⟨pk_in i 16 (by omega), br_t ?_ (nm_r (nI_1 i) (hw () (by omega)))⟩)
      rw [ic_at (by omega) (h6 i (by omega))]
      exact (ic_bit v (by omega) i (by omega)).mpr (by omega)
  obtain ⟨m, hm⟩ := L
  refine ⟨m + 1, pk_lt u v (fun z => absurd z (by omega)) (fun _ => nm_r (ic_out0 v (by omega)) ⟨pk_in v 16 (by omega), br_f ?_ ⟨pk_in v 16 (by omega), ic_app (by omega) (by omega) (ic_at (by omega) (h6 v (by omega))) (nm_r (nI_1 v) hm)⟩⟩)⟩
  rw [ic_at (by omega) (h6 v (by omega))]
  exact fun z => (ic_bit v (by omega) v (by omega)).mp z rfl
theorem ic_r93 {post : Int32 → St2 → Prop} (hn : n ≤ 16) (hu : u < n) (hv : v < u) (h6 : ∀ j, j < n → a6 j = nI j) (h7 : ic_V n v a7) (H : ∀ b5 b6 b7, ic_V n n b6 → b6 u = nI v → post 0 (nI n, nI n, nI n, a1, a2, a3, a4, b5, b6, b7, a8, a9)) :
    ∃ fu, wX_repairLine_93 post (nI v) (nI u) (ic_B v) 0 fu (nI v) (nI n) (nI n) (nI v) a1 a2 a3 a4 a5 a6 a7 a8 a9 := by
  have L : ∃ fu, wX_repairLine_93 post (nI v) (nI u) (ic_B v) 0 fu (nI (v + 1)) (nI n) (nI n) (nI v) a1 a2 a3 a4 a5 a6 a7 a8 a9 := by
    refine pk_loop (fun m i s => wX_repairLine_93 post (nI v) (nI u) (ic_B v) 0 m (nI (i + 1)) (nI n) (nI n) (nI i) a1 a2 a3 a4 a5 a6 s a8 a9) (fun i s => v ≤ i ∧ ic_V n i s) u v a7 (by omega) ⟨by omega, h7⟩ ?_ ?_
    · exact fun m s h => pk_lt u (u + 1) (fun _ => br_t rfl (ic_r167 hn hu hv h6 h.2 H)) (fun z => absurd z (by omega))
    · intro m i s hi h hw
      have h0 := h.1
      refine pk_lt u (i + 1) (fun z => absurd z (by omega)) (fun _ => ⟨pk_in (i + 1) 16 (by omega), br_t ?_ ⟨pk_in (i + 1) 16 (by omega), ic_app (by omega) (by omega) (ic_at (by omega) (h6 (i + 1) (by omega))) (nm_r (nI_1 (i + 1)) (hw _ ⟨by omega, ic_Vadd h.2 rfl (show i + 1 < n by omega) rfl⟩))⟩⟩)
      rw [ic_at (by omega) (h6 (i + 1) (by omega))]
      exact (ic_bit v (by omega) (i + 1) (by omega)).mpr (by omega)
  obtain ⟨m, hm⟩ := L
  refine ⟨m + 1, pk_lt u v (fun z => absurd z (by omega)) (fun _ => ⟨pk_in v 16 (by omega), br_f ?_ (nm_r (nI_1 v) hm)⟩)⟩
  rw [ic_at (by omega) (h6 v (by omega))]
  exact fun z => (ic_bit v (by omega) v (by omega)).mp z rfl
theorem ic_r67 {post : Int32 → St2 → Prop} (hn : n ≤ 16) (hu : u < n) (hv : v < u) (h6 : ∀ j, j < n → a6 j = nI j) (H : ∀ b5 b6 b7, ic_V n n b6 → b6 u = nI v → post 0 (nI n, nI n, nI n, a1, a2, a3, a4, b5, b6, b7, a8, a9)) :
    ∃ fu, wX_repairLine_67 post (nI v) (nI u) (ic_B v) 0 fu 0 (nI n) (nI n) 0 a1 a2 a3 a4 a5 a6 a7 a8 a9 := by
  refine pk_loop (fun m i s => wX_repairLine_67 post (nI v) (nI u) (ic_B v) 0 m (nI i) (nI n) (nI n) (nI i) a1 a2 a3 a4 a5 a6 s a8 a9) (fun i s => ic_V n i s) v 0 a7 (by omega) ic_V0 ?_ ?_
  · exact fun m s h => pk_le v v (fun _ => ic_r93 hn hu hv h6 h H) (fun z => absurd z (by omega))
  · exact fun m i s hi h hw => pk_le v i (fun z => absurd z (by omega)) (fun _ => ⟨pk_in i 16 (by omega), ic_app (by omega) (by omega) (ic_at (by omega) (h6 i (by omega))) (nm_r (nI_1 i) (hw _ (ic_Vadd h rfl (show i < n by omega) rfl)))⟩)
theorem ic_rep {post : Int32 → St2 → Prop} (hn : n ≤ 16) (hu : u < n) (hv : v < u) (h1 : a1 v = 0) (h4 : a4 v = ic_B v) (h5 : ∀ j, j < n → a5 j = nI j) (h6 : ∀ j, j < n → a6 j = nI j) (H : ∀ b5 b6 b7, ic_V n n b6 → b6 u = nI v → post 0 (nI n, nI n, nI n, a1, a2, a3, a4, b5, b6, b7, a8, a9)) :
    wpX_repairLine post (nI n, nI n, k, a1, a2, a3, a4, a5, a6, a7, a8, a9) (nI u) (nI v) :=
  ⟨pk_in v 16 (by omega), nm_r (ic_at (by omega) (h5 v (by omega))) ⟨pk_in u 16 (by omega), nm_r (ic_at (by omega) (h5 u (by omega))) (ic_fwd hn hu hv h1 h4 (h5 v (by omega)) h6 (br_t ((ic_bit v (by omega) u (by omega)).mpr (by omega)) (ic_r67 hn hu hv h6 H)))⟩⟩
end
end
section
section
variable {a1 a2 a3 a4 a5 a6 a7 a8 a9 : Nat → Int32} {l k : Int32} {n : Nat}
/-! height: e is what each vertex's height must be -/
theorem ic_b0 : (0 : Int32).toInt8.toInt32 = 0 := by decide
theorem ic_b1 : (1 : Int32).toInt8.toInt32 = 1 := by decide
theorem ic_h0 {post : Int32 → St2 → Prop} {J : Int32 → (Nat → Int32) → (Nat → Int32) → (Nat → Int32) → (Nat → Int32) → (Nat → Int32) → (Nat → Int32) → (Nat → Int32) → (Nat → Int32) → (Nat → Int32) → Prop} {x1 : Int32} {i c : Nat} (hn : n ≤ 16) (hc : c < 16) (H : J (nI (i + 1)) a1 a2 a3 a4 a5 a6 a7 (upd a8 c 0) a9) :
    ∃ fu, wX_height_54 post J x1 (nI i) (nI c) 0 (nI n) l k a1 a2 a3 a4 a5 a6 a7 a8 a9 fu 0 0 :=
  pk_loop (σ := Unit) (fun m j _ => wX_height_54 post J x1 (nI i) (nI c) 0 (nI n) l k a1 a2 a3 a4 a5 a6 a7 a8 a9 m 0 (nI j)) (fun _ _ => True) n 0 () (by omega) trivial
    (fun m _ _ => pk_le n n (fun _ => ⟨pk_in c 16 hc, nm_r (by rw [ic_cl hc, ic_b0]) (nm_r (nI_1 i) H)⟩) (fun z => absurd z (by omega)))
    (fun m j _ hj _ hw => pk_le n j (fun z => absurd z (by omega)) (fun _ => br_t (ic_bit0 j (by omega)) (nm_r (nI_1 j) (hw () trivial))))
theorem ic_h1 {post : Int32 → St2 → Prop} {J : Int32 → (Nat → Int32) → (Nat → Int32) → (Nat → Int32) → (Nat → Int32) → (Nat → Int32) → (Nat → Int32) → (Nat → Int32) → (Nat → Int32) → (Nat → Int32) → Prop} {x1 : Int32} {i c u : Nat} (hn : n ≤ 16) (hc : c < 16) (hu : u < n) (h3 : a3 u = nI u) (h8 : a8 u = 0) (H : J (nI (i + 1)) a1 a2 a3 a4 a5 a6 a7 (upd a8 c 1) a9) :
    ∃ fu, wX_height_54 post J x1 (nI i) (nI c) (ic_B u) (nI n) l k a1 a2 a3 a4 a5 a6 a7 a8 a9 fu 0 0 := by
  refine pk_loop (fun m j s => wX_height_54 post J x1 (nI i) (nI c) (ic_B u) (nI n) l k a1 a2 a3 a4 a5 a6 a7 a8 a9 m s (nI j)) (fun j s => s = if u < j then 1 else 0) n 0 0 (by omega) (by rw [if_neg (by omega)]) ?_ ?_
  · intro m s h
    rw [if_pos hu] at h
    subst h
    exact pk_le n n (fun _ => ⟨pk_in c 16 hc, nm_r (by rw [ic_cl hc, ic_b1]) (nm_r (nI_1 i) H)⟩) (fun z => absurd z (by omega))
  · intro m j s hj h hw
    refine pk_le n j (fun z => absurd z (by omega)) (fun _ => br_c (fun g => nm_r (nI_1 j) (hw _ ?_)) (fun g => ?_))
    · have e := (ic_bit u (by omega) j (by omega)).mp g
      rw [h]
      by_cases d : u < j
      · rw [if_pos d, if_pos (by omega)]
      · rw [if_neg d, if_neg (by omega)]
    · have e : u = j := Decidable.not_not.mp (fun d => g ((ic_bit u (by omega) j (by omega)).mpr d))
      subst e
      rw [if_neg (by omega)] at h
      subst h
      have e3 : a3 (nI u).toNatClampNeg = nI u := ic_at (by omega) h3
      have e8 : a8 (a3 (nI u).toNatClampNeg).toNatClampNeg = 0 := by rw [e3, ic_at (by omega) h8]
      refine ⟨pk_in u 16 (by omega), pk_in u 16 (by omega) e3, br_f ?_ ⟨pk_in u 16 (by omega), pk_in u 16 (by omega) e3, nm_r (e' := 1) ?_ (nm_r (nI_1 u) (hw 1 ?_))⟩⟩
      · rw [e8]
        decide
      · rw [e8]
        rfl
      · rw [if_pos (by omega)]
theorem ic_hei {post : Int32 → St2 → Prop} {w : Nat} {e : Nat → Int32} (hn : n ≤ 16) (hw : w < n) (h3 : ∀ j, j < n → a3 j = nI j) (h4 : ∀ j, j < n → a4 j = ic_B j) (hl : ic_V n n a6)
    (hs : ∀ c, c < n → (a2 c = 0 ∧ e c = 0) ∨ ∃ u, u < n ∧ ¬ u = c ∧ a2 c = ic_B u ∧ e u = 0 ∧ e c = 1) (hq : e w = 0 ∨ ∃ i, i < n ∧ a6 i = nI w) (h8 : ∀ j, j < n → a8 j = 0)
    (H : ∀ b8, post (e w) (nI n, nI n, k, a1, a2, a3, a4, a5, a6, a7, b8, a9)) : wpX_height post (nI n, nI n, k, a1, a2, a3, a4, a5, a6, a7, a8, a9) (nI w) := by
  unfold wpX_height
  refine ic_vok hn hw (br_f ic_10 ?_)
  refine pk_loop (fun m i s => wX_height_12 post (nI w) (nI n) (nI n) k m (nI i) a1 a2 a3 a4 a5 a6 a7 s a9) (fun i s => (∀ j, j < n → s j = e j ∨ s j = 0) ∧ ∀ j, j < i → ∀ c, c < n → a6 j = nI c → s c = e c) n 0 a8 (by omega) ⟨fun j hj => Or.inr (h8 j hj), fun j hj => absurd hj (by omega)⟩ ?_ ?_
  · intro m s h
    have hz : s w = e w := by
      rcases hq with g | ⟨i, hi, g⟩
      · rcases h.1 w hw with d | d
        · exact d
        · rw [d, g]
      · exact h.2 i hi w hw g
    have e3 : a3 (nI w).toNatClampNeg = nI w := ic_at (by omega) (h3 w hw)
    have e8 : s (a3 (nI w).toNatClampNeg).toNatClampNeg = e w := by rw [e3, ic_at (by omega) hz]
    refine pk_le n n (fun _ => ⟨pk_in w 16 (by omega), pk_in w 16 (by omega) e3, ?_⟩) (fun z => absurd z (by omega))
    rw [e8]
    exact H s
  · intro m i s hi h hw'
    obtain ⟨c, hc, ec⟩ := hl i hi
    have F : ∀ x, x = e c → (∀ j, j < n → upd s c x j = e j ∨ upd s c x j = 0) ∧ ∀ j, j < i + 1 → ∀ d, d < n → a6 j = nI d → upd s c x d = e d := by
      intro x hx
      refine ⟨fun j hj => ?_, fun j hj d hd g => ?_⟩
      · by_cases q : j = c
        · rw [q, pk_us]
          exact Or.inl hx
        · rw [pk_un q]
          exact h.1 j hj
      · by_cases q : d = c
        · rw [q, pk_us, hx]
        · rw [pk_un q]
          refine h.2 j ?_ d hd g
          have q2 : ¬ j = i := by
            intro ji
            rw [ji, ec] at g
            exact q ((nI_eq (by omega) (by omega)).mp g).symm
          omega
    refine pk_le n i (fun z => absurd z (by omega)) (fun _ => ⟨pk_in i 16 (by omega), nm_r (ic_at (by omega) ec) ⟨pk_in c 16 (by omega), ic_src hn hc (ic_at (by omega) (h4 c hc)) rfl ⟨pk_in c 16 (by omega), ?_⟩⟩⟩)
    rcases hs c hc with ⟨g, ge⟩ | ⟨u, hu, huc, g, gu, gc⟩
    · exact nm_r (e' := 0) (by rw [g, ic_0and]) (ic_h0 hn (by omega) (hw' _ (F 0 ge.symm)))
    · have hz : s u = 0 := by
        rcases h.1 u hu with d | d
        · rw [d, gu]
        · exact d
      exact nm_r (e' := ic_B u) (by rw [g, ic_at (by omega) (h4 c hc), ic_out u (by omega) c (by omega) huc]) (ic_h1 hn (by omega) hu (h3 u hu) hz (hw' _ (F 1 gc.symm)))
theorem ic_heiB {post : Int32 → St2 → Prop} {x : Int32} (h : x < 0 ∨ nI n ≤ x) (H : post (-1) (nI n, l, k, a1, a2, a3, a4, a5, a6, a7, a8, a9)) : wpX_height post (nI n, l, k, a1, a2, a3, a4, a5, a6, a7, a8, a9) x := by
  unfold wpX_height
  exact ic_vbad h (br_t rfl H)
end
end
section
section
variable {a1 a2 a3 a4 a5 a6 a7 a8 a9 : Nat → Int32} {l k : Int32} {n u v : Nat}
/-! removeEdge, addEdge -/
theorem ic_of {x : Int32} (hn : n ≤ 16) (h : ¬ (x < 0 ∨ nI n ≤ x)) : ∃ j : Nat, j < n ∧ x = nI j := by
  rcases pk_ix x (n := n) (by omega) with g | g | g
  · exact absurd (Or.inl g) h
  · exact absurd (Or.inr g) h
  · exact g
def ic_Bad (n : Nat) (x y : Int32) : Prop := (x < 0 ∨ nI n ≤ x) ∨ (y < 0 ∨ nI n ≤ y) ∨ x = y
theorem ic_ne {i j : Nat} (hi : i < 16) (hj : j < 16) (h : ¬ i = j) : ¬ nI i = nI j := fun z => h ((nI_eq (by omega) (by omega)).mp z)
theorem ic_rem {post : Int32 → St2 → Prop} (hn : n ≤ 16) (hu : u < n) (hv : v < n) (hd : ¬ u = v) (h1 : a1 u = 0) (H : post (-2) (nI n, l, k, a1, a2, a3, a4, a5, a6, a7, a8, a9)) : wpX_removeEdge post (nI n, l, k, a1, a2, a3, a4, a5, a6, a7, a8, a9) (nI u) (nI v) := by
  unfold wpX_removeEdge
  refine ic_vok hn hu (br_f ic_10 (ic_vok hn hv (br_f ic_10 (br_f (ic_ne (by omega) (by omega) hd) ⟨pk_in u 16 (by omega), br_t ?_ H⟩))))
  rw [ic_at (by omega) h1]
  exact ic_bit0 v (by omega)
theorem ic_remB {post : Int32 → St2 → Prop} {x y : Int32} (hn : n ≤ 16) (h : ic_Bad n x y) (H : post (-1) (nI n, l, k, a1, a2, a3, a4, a5, a6, a7, a8, a9)) : wpX_removeEdge post (nI n, l, k, a1, a2, a3, a4, a5, a6, a7, a8, a9) x y := by
  unfold wpX_removeEdge
  by_cases g : x < 0 ∨ nI n ≤ x
  · exact ic_vbad g (br_t rfl H)
  · by_cases g2 : y < 0 ∨ nI n ≤ y
    · obtain ⟨j, hj, rfl⟩ := ic_of hn g
      exact ic_vok hn hj (br_f ic_10 (ic_vbad g2 (br_t rfl H)))
    · obtain rfl : x = y := (h.resolve_left g).resolve_left g2
      obtain ⟨j, hj, rfl⟩ := ic_of hn g
      exact ic_vok hn hj (br_f ic_10 (ic_vok hn hj (br_f ic_10 (br_t rfl H))))
theorem ic_addB {post : Int32 → St2 → Prop} {x y : Int32} (hn : n ≤ 16) (h : ic_Bad n x y) (H : post (-1) (nI n, l, k, a1, a2, a3, a4, a5, a6, a7, a8, a9)) : wpX_addEdge post (nI n, l, k, a1, a2, a3, a4, a5, a6, a7, a8, a9) x y := by
  unfold wpX_addEdge
  by_cases g : x < 0 ∨ nI n ≤ x
  · exact ic_vbad g (br_t rfl H)
  · by_cases g2 : y < 0 ∨ nI n ≤ y
    · obtain ⟨j, hj, rfl⟩ := ic_of hn g
      exact ic_vok hn hj (br_f ic_10 (ic_vbad g2 (br_t rfl H)))
    · obtain rfl : x = y := (h.resolve_left g).resolve_left g2
      obtain ⟨j, hj, rfl⟩ := ic_of hn g
      exact ic_vok hn hj (br_f ic_10 (ic_vok hn hj (br_f ic_10 (br_t rfl H))))
theorem ic_add {post : Int32 → St2 → Prop} (hn : n ≤ 16) (hu : u < n) (hv : v < n) (hd : ¬ u = v) (h1 : ∀ j, j < n → a1 j = 0) (h2 : ∀ j, j < n → a2 j = 0) (h3 : ∀ j, j < n → a3 j = nI j) (h4 : ∀ j, j < n → a4 j = ic_B j) (h5 : ∀ j, j < n → a5 j = nI j) (h6 : ∀ j, j < n → a6 j = nI j)
    (H : ∀ k' b5 b6 b7, ic_V n n b6 → (∃ i, i < n ∧ b6 i = nI v) → post 0 (nI n, nI n, k', upd a1 u (ic_B v), upd a2 v (ic_B u), a3, a4, b5, b6, b7, a8, a9)) : wpX_addEdge post (nI n, nI n, k, a1, a2, a3, a4, a5, a6, a7, a8, a9) (nI u) (nI v) := by
  unfold wpX_addEdge
  have iu : vp_in (nI u) 16 := pk_in u 16 (by omega)
  have iv : vp_in (nI v) 16 := pk_in v 16 (by omega)
  refine ic_vok hn hu (br_f ic_10 (ic_vok hn hv (br_f ic_10 (br_f (ic_ne (by omega) (by omega) hd) ⟨iu, br_t ?_ ⟨iu, iu, nm_r (e' := upd a1 u (ic_B v)) ?_ ⟨iv, iv, nm_r (e' := upd a2 v (ic_B u)) ?_ ⟨iu, nm_r (ic_at (by omega) (h3 u hu)) ⟨iv, nm_r (ic_at (by omega) (h3 v hv)) ⟨iu, iv, ?_⟩⟩⟩⟩⟩⟩))))
  · rw [ic_at (by omega) (h1 u hu)]
    exact ic_bit0 v (by omega)
  · rw [ic_at (by omega) (h1 u hu), ic_cl (by omega), ic_0or]
  · rw [ic_at (by omega) (h2 v hv), ic_cl (by omega), ic_0or]
  · refine pk_lt v u (fun z => ic_rep hn hu z ?_ (h4 v hv) h5 h6 (fun b5 b6 b7 g1 g2 => H _ b5 b6 b7 g1 ⟨u, hu, g2⟩)) (fun z => H _ _ _ _ (fun j hj => ⟨j, hj, h6 j hj⟩) ⟨v, hv, h6 v hv⟩) (ic_at (by omega) (h5 v hv)) (ic_at (by omega) (h5 u hu))
    rw [pk_un (by omega)]
    exact h1 v hv
end
end
section
section
variable {a1 a2 a3 a4 a5 a6 a7 a8 a9 : Nat → Int32} {l k : Int32} {n : Nat} {mc ms kc ks : Nat} {x0 x1 x2 x3 x5 x6 z0 z1 : Int32}
/-! the constructor -/
theorem ic_i103 {post : St2 → Prop} (hn : n ≤ 16) (H : ∀ a3 a4 a5 a6, (∀ j, j < n → a3 j = nI j) → (∀ j, j < n → a4 j = ic_B j) → (∀ j, j < n → a5 j = nI j) → (∀ j, j < n → a6 j = nI j) → post (nI n, nI n, 0, (fun _ => 0), (fun _ => 0), a3, a4, a5, a6, (fun _ => 0), (fun _ => 0), (fun _ => 0))) :
    ∃ fu, wX_init_103 post 9 144 9 144 (nI n) 0 0 fu 0 (fun _ => 0) (fun _ => 0) (fun _ => 0) (fun _ => 0) (fun _ => 0) (fun _ => 0) (fun _ => 0) (fun _ => 0) (fun _ => 0) := by
  refine pk_loop (fun m i (s : (Nat → Int32) × (Nat → Int32) × (Nat → Int32) × (Nat → Int32)) => wX_init_103 post 9 144 9 144 (nI n) 0 0 m (nI i) (fun _ => 0) (fun _ => 0) s.1 s.2.1 s.2.2.1 s.2.2.2 (fun _ => 0) (fun _ => 0) (fun _ => 0))
    (fun i s => (∀ j, j < i → s.1 j = nI j) ∧ (∀ j, j < i → s.2.1 j = ic_B j) ∧ (∀ j, j < i → s.2.2.1 j = nI j) ∧ (∀ j, j < i → s.2.2.2 j = nI j)) n 0 ((fun _ => 0), (fun _ => 0), (fun _ => 0), (fun _ => 0)) (by omega) ⟨fun j hj => absurd hj (by omega), fun j hj => absurd hj (by omega), fun j hj => absurd hj (by omega), fun j hj => absurd hj (by omega)⟩ ?_ ?_
  · exact fun m s h => pk_le n n (fun _ => H _ _ _ _ h.1 h.2.1 h.2.2.1 h.2.2.2) (fun z => absurd z (by omega))
  · intro m i s hi h hw
    have ii : vp_in (nI i) 16 := pk_in i 16 (by omega)
    have e := ic_cl (show i < 16 by omega)
    have b := ic_byte i (by omega)
    exact pk_le n i (fun z => absurd z (by omega)) (fun _ => ⟨ii, nm_e ⟨ii, nm_e ⟨ii, nm_e ⟨ii, nm_e (nm_r (nI_1 i) (hw (_, _, _, _) ⟨ic_fill (f := nI) e h.1 b, ic_fill (f := ic_B) e h.2.1 rfl, ic_fill (f := nI) e h.2.2.1 b, ic_fill (f := nI) e h.2.2.2 b⟩))⟩⟩⟩⟩)
/-- how many vertices the constructor takes -/
def ic_Cl (x : Int32) (n : Nat) : Prop := (2 ≤ x ∧ x ≤ 16 ∧ x = nI n) ∨ (2 ≤ x ∧ ¬ x ≤ 16 ∧ n = 16) ∨ (¬ 2 ≤ x ∧ n = 2)
theorem ic_ini {post : St2 → Prop} (hn : n ≤ 16) (hc : ic_Cl x0 n) (H : ∀ a3 a4 a5 a6, (∀ j, j < n → a3 j = nI j) → (∀ j, j < n → a4 j = ic_B j) → (∀ j, j < n → a5 j = nI j) → (∀ j, j < n → a6 j = nI j) → post (nI n, nI n, 0, (fun _ => 0), (fun _ => 0), a3, a4, a5, a6, (fun _ => 0), (fun _ => 0), (fun _ => 0))) :
    wpX_init post 9 144 (0, 0, 0) x0 := by
  refine ⟨by omega, by omega, by omega, by omega, by omega, by omega, by omega, by omega, by omega, by omega, by omega, by omega, by omega, by omega, by omega, by omega, by omega, by omega, ?_⟩
  rcases hc with ⟨g1, g2, rfl⟩ | ⟨g1, g2, rfl⟩ | ⟨g1, rfl⟩
  · exact br_t g1 (br_t g2 (ic_i103 hn H))
  · exact br_t g1 (br_f g2 (ic_i103 hn H))
  · exact br_f g1 (ic_i103 hn H)
/-! the law, from its end -/
def ic_Th (n : Nat) (x y : Int32) : Prop := (y = 1 ∧ ∃ w, w < n ∧ x = nI w) ∨ (y = 0 ∧ (x < 0 ∨ nI n ≤ x))
def ic_Fit (n : Nat) (x y z : Int32) : Prop := (z = 1 ∧ ∃ u v, u < n ∧ v < n ∧ ¬ u = v ∧ x = nI u ∧ y = nI v) ∨ (z = 0 ∧ ic_Bad n x y)
theorem ic_190 (hn : n ≤ 16) (hw : ic_Th n x3 x6) (h3 : ∀ j, j < n → a3 j = nI j) (h14 : ∀ j, j < n → a1 j &&& a4 j = 0) (hz : z1 = z0) : wL_lawOf_190 (fun r _ => r = 1) mc ms x3 x6 z0 z1 kc ks (nI n) l k a1 a2 a3 a4 a5 a6 a7 a8 a9 := by
  refine br_t hz ?_
  rcases hw with ⟨rfl, w, hw, rfl⟩ | ⟨rfl, hw⟩
  · exact ic_cyc hn hw (h3 w hw) (h14 w hw) (br_f ic_10 (br_t rfl rfl))
  · exact ic_cycB hw (br_t rfl (br_t rfl rfl))
theorem ic_189 (hn : n ≤ 16) (hw : ic_Th n x3 x6) (h3 : ∀ j, j < n → a3 j = nI j) (h14 : ∀ j, j < n → a1 j &&& a4 j = 0) (hz : z1 = 0) : wL_lawOf_189 (fun r _ => r = 1) mc ms x3 x6 z1 kc ks (nI n) l k a1 a2 a3 a4 a5 a6 a7 a8 a9 := by
  unfold wL_lawOf_189
  exact ic_190 hn hw h3 h14 hz
theorem ic_143 {e : Nat → Int32} (hn : n ≤ 16) (hw : ic_Th n x3 x6) (he : (x5 = 0 ∧ ∀ j, j < n → e j = 0) ∨ (x5 = 1 ∧ ∃ v, v < n ∧ x2 = nI v ∧ ∀ j, e j = if j = v then 1 else 0)) (h3 : ∀ j, j < n → a3 j = nI j) (h4 : ∀ j, j < n → a4 j = ic_B j) (h14 : ∀ j, j < n → a1 j &&& a4 j = 0) (hl : ic_V n n a6)
    (hs : ∀ c, c < n → (a2 c = 0 ∧ e c = 0) ∨ ∃ u, u < n ∧ ¬ u = c ∧ a2 c = ic_B u ∧ e u = 0 ∧ e c = 1) (hq : ∀ w, w < n → e w = 0 ∨ ∃ i, i < n ∧ a6 i = nI w) (h8 : ∀ j, j < n → a8 j = 0) (hz : z1 = z0) :
    wL_lawOf_143 (fun r _ => r = 1) mc ms x2 x3 (nI n) x5 x6 z0 z1 kc ks (nI n) (nI n) k a1 a2 a3 a4 a5 a6 a7 a8 a9 := by
  refine br_t hz (br_t rfl ?_)
  have hw' := hw
  rcases hw with ⟨rfl, w, hw, rfl⟩ | ⟨rfl, hw⟩
  · refine ic_hei (e := e) hn hw h3 h4 hl hs (hq w hw) h8 (fun b8 => br_f ic_10 ?_)
    rcases he with ⟨rfl, he⟩ | ⟨rfl, v, hv, rfl, he⟩
    · exact br_t rfl (ic_189 hn hw' h3 h14 (he w hw))
    · refine br_f ic_10 (pk_eq w v (fun z => ic_190 hn hw' h3 h14 ?_) (fun z => ic_189 hn hw' h3 h14 ?_))
      · rw [he w, if_pos z]
      · rw [he w, if_neg z]
  · exact ic_heiB hw (br_t rfl (ic_190 hn hw' h3 h14 rfl))
theorem ic_121 (hn : n ≤ 16) (hw : ic_Th n x3 x6) (hf : ic_Fit n x1 x2 x5) (h1 : ∀ j, j < n → a1 j = 0) (h2 : ∀ j, j < n → a2 j = 0) (h3 : ∀ j, j < n → a3 j = nI j) (h4 : ∀ j, j < n → a4 j = ic_B j) (h5 : ∀ j, j < n → a5 j = nI j) (h6 : ∀ j, j < n → a6 j = nI j) (h8 : ∀ j, j < n → a8 j = 0) (hz : z1 = z0) :
    wL_lawOf_121 (fun r _ => r = 1) mc ms x1 x2 x3 (nI n) x5 x6 z0 z1 kc ks (nI n) (nI n) k a1 a2 a3 a4 a5 a6 a7 a8 a9 := by
  refine br_t hz ?_
  rcases hf with ⟨rfl, u, v, hu, hv, hd, rfl, rfl⟩ | ⟨rfl, hb⟩
  · refine ic_add hn hu hv hd h1 h2 h3 h4 h5 h6 (fun k' b5 b6 b7 hV hE => br_f ic_10 (ic_143 (e := fun j => if j = v then 1 else 0) hn hw (Or.inr ⟨rfl, v, hv, rfl, fun j => rfl⟩) h3 h4 (fun j hj => ?_) hV (fun c hc => ?_) (fun w hw => ?_) h8 rfl))
    · by_cases q : j = u
      · rw [q, pk_us, h4 u hu]
        exact ic_and v (by omega) u (by omega) (fun z => hd z.symm)
      · rw [pk_un q, h1 j hj, ic_0and]
    · by_cases q : c = v
      · refine Or.inr ⟨u, hu, by omega, by rw [q, pk_us], if_neg hd, if_pos q⟩
      · refine Or.inl ⟨by rw [pk_un q, h2 c hc], if_neg q⟩
    · by_cases q : w = v
      · rw [q]
        exact Or.inr hE
      · exact Or.inl (if_neg q)
  · exact ic_addB hn hb (br_t rfl (ic_143 (e := fun _ => 0) hn hw (Or.inl ⟨rfl, fun _ _ => rfl⟩) h3 h4 (fun j hj => by rw [h1 j hj, ic_0and]) (fun j hj => ⟨j, hj, h6 j hj⟩) (fun c hc => Or.inl ⟨h2 c hc, rfl⟩) (fun w hw => Or.inl rfl) h8 rfl))
theorem ic_98 (hn : n ≤ 16) (hw : ic_Th n x3 x6) (hf : ic_Fit n x1 x2 x5) (h1 : ∀ j, j < n → a1 j = 0) (h2 : ∀ j, j < n → a2 j = 0) (h3 : ∀ j, j < n → a3 j = nI j) (h4 : ∀ j, j < n → a4 j = ic_B j) (h5 : ∀ j, j < n → a5 j = nI j) (h6 : ∀ j, j < n → a6 j = nI j) (h8 : ∀ j, j < n → a8 j = 0) (hz : z1 = z0) :
    wL_lawOf_98 (fun r _ => r = 1) mc ms x1 x2 x3 (nI n) x5 x6 z0 z1 kc ks (nI n) (nI n) k a1 a2 a3 a4 a5 a6 a7 a8 a9 := by
  refine br_t hz ?_
  have hf' := hf
  rcases hf with ⟨rfl, u, v, hu, hv, hd, rfl, rfl⟩ | ⟨rfl, hb⟩
  · exact ic_rem hn hu hv hd (h1 u hu) (br_f ic_10 (ic_121 hn hw hf' h1 h2 h3 h4 h5 h6 h8 rfl))
  · exact ic_remB hn hb (br_t rfl (ic_121 hn hw hf' h1 h2 h3 h4 h5 h6 h8 rfl))
theorem ic_70 (hn : n ≤ 16) (hc : ic_Cl x0 n) (hw : ic_Th n x3 z0) (hf : ic_Fit n x1 x2 x5) : wL_lawOf_70 (fun r _ => r = 1) 10 156 x0 x1 x2 x3 (nI n) x5 z0 0 0 := by
  refine ⟨by omega, by omega, 9, 144, by omega, by omega, ic_ini hn hc (fun a3 a4 a5 a6 h3 h4 h5 h6 => ?_)⟩
  have hw' := hw
  rcases hw with ⟨rfl, w, hw, rfl⟩ | ⟨rfl, hw⟩
  · exact ic_leader hn hw (h3 w hw) (br_f ic_10 (ic_98 hn hw' hf (fun _ _ => rfl) (fun _ _ => rfl) h3 h4 h5 h6 (fun _ _ => rfl) rfl))
  · exact ic_leaderB hw (br_t rfl (ic_98 hn hw' hf (fun _ _ => rfl) (fun _ _ => rfl) h3 h4 h5 h6 (fun _ _ => rfl) rfl))
theorem ic_69 (hn : n ≤ 16) (hc : ic_Cl x0 n) (hw : x3 < 0 ∨ nI n ≤ x3) (hf : ic_Fit n x1 x2 x5) : wL_lawOf_69 (fun r _ => r = 1) 10 156 x0 x1 x2 x3 (nI n) x5 0 0 := by
  unfold wL_lawOf_69
  exact ic_70 hn hc (Or.inr ⟨rfl, hw⟩) hf
theorem ic_53 (hn : n ≤ 16) (hc : ic_Cl x0 n) (hf : ic_Fit n x1 x2 x5) : wL_lawOf_53 (fun r _ => r = 1) 10 156 x0 x1 x2 x3 (nI n) x5 0 0 :=
  br_c (fun g => ic_69 hn hc (Or.inl g) hf) (fun g => br_c (fun g2 => ic_69 hn hc (Or.inr g2) hf) (fun g2 => ic_70 hn hc (Or.inl ⟨rfl, ic_of hn (fun z => z.elim g g2)⟩) hf))
theorem ic_52 (hn : n ≤ 16) (hc : ic_Cl x0 n) (hb : ic_Bad n x1 x2) : wL_lawOf_52 (fun r _ => r = 1) 10 156 x0 x1 x2 x3 (nI n) 0 0 := by
  unfold wL_lawOf_52
  exact ic_53 hn hc (Or.inr ⟨rfl, hb⟩)
theorem ic_21 (hn : n ≤ 16) (hc : ic_Cl x0 n) : wL_lawOf_21 (fun r _ => r = 1) 10 156 x0 x1 x2 x3 (nI n) 0 0 := by
  refine br_c (fun g => ic_52 hn hc (Or.inl (Or.inl g))) (fun g => br_c (fun g2 => ic_52 hn hc (Or.inl (Or.inr g2))) (fun g2 => br_c (fun g3 => ic_52 hn hc (Or.inr (Or.inl (Or.inl g3)))) (fun g3 => br_c (fun g4 => ic_52 hn hc (Or.inr (Or.inl (Or.inr g4)))) (fun g4 => br_c (fun g5 => ic_52 hn hc (Or.inr (Or.inr g5))) (fun g5 => ic_53 hn hc ?_)))))
  obtain ⟨u, hu, rfl⟩ := ic_of (x := x1) hn (fun z => z.elim g g2)
  obtain ⟨v, hv, rfl⟩ := ic_of (x := x2) hn (fun z => z.elim g3 g4)
  exact Or.inl ⟨rfl, u, v, hu, hv, fun z => g5 (congrArg nI z), rfl, rfl⟩
theorem ic_nneg {x : Int32} (h : 2 ≤ x) : ¬ x < 0 := by
  intro g
  rw [Int32.le_iff_toInt_le] at h
  rw [Int32.lt_iff_toInt_lt] at g
  have e2 : (2 : Int32).toInt = 2 := by decide
  have e0 : (0 : Int32).toInt = 0 := by decide
  omega
theorem ic_lawOf : wpL_lawOf (fun r _ => r = 1) 10 156 () x0 x1 x2 x3 := by
  refine br_c (fun g => br_c (fun g2 => ?_) (fun g2 => ic_21 (n := 16) (by omega) (Or.inr (Or.inl ⟨g, g2, rfl⟩)))) (fun g => ic_21 (n := 2) (by omega) (Or.inr (Or.inr ⟨g, rfl⟩)))
  obtain ⟨n, hn, e⟩ := nI_of2 (M := 16) (n := 16) (by decide) (ic_nneg g) g2
  have r : wL_lawOf_21 (fun r _ => r = 1) 10 156 x0 x1 x2 x3 (nI n) 0 0 := ic_21 hn (Or.inl ⟨g, g2, e⟩)
  rw [← e] at r
  exact r
theorem ic_cell {post : Int32 → Prop} {L : Nat} {xs : Nat → Int32} {x : Int32} (hL : L ≤ 4) (i : Nat) (hi : i < 4) (hx : x = nI i) (H : ∀ r, post r) : wpL_cellAt post L xs () x :=
  pk_le L i (fun _ => H _) (fun h => ⟨pk_in i L h hx, H _⟩) rfl hx
end
theorem i_vc (xs : Nat → Int32) (L : Nat) (hL : L ≤ 4) : wpL_law (fun r => r = 1) L xs := by
  unfold wpL_law
  exact ic_cell hL 0 (by omega) rfl (fun r1 => ic_cell hL 1 (by omega) rfl (fun r2 => ic_cell hL 2 (by omega) rfl (fun r3 => ic_cell hL 3 (by omega) rfl (fun r4 => ⟨10, 156, by omega, by omega, ic_lawOf⟩))))
end
