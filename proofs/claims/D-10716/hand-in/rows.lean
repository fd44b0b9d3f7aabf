section
/-! ===== CongruenceBook: the values that the maker clamps ===== -/
/-- the number of unknowns that is kept for the asked p -/
def cb_n (p : Int32) : Int32 := if (if 1 ≤ p then p else 1) ≤ 4 then (if 1 ≤ p then p else 1) else 4
/-- the most bits for n unknowns -/
def cb_m (n : Int32) : Int32 := if 3 ≤ n then 6 - n else 4
/-- the bits that are kept for the asked p, at most m -/
def cb_b (p m : Int32) : Int32 := if (if 1 ≤ p then p else 1) ≤ m then (if 1 ≤ p then p else 1) else m
theorem cb_nk (p : Int32) : ∃ k : Nat, 1 ≤ k ∧ k ≤ 4 ∧ cb_n p = nI k := by
  unfold cb_n
  by_cases h1 : 1 ≤ p
  · rw [if_pos h1]
    by_cases h4 : p ≤ 4
    · rw [if_pos h4]
      have h0 : ¬ p < 0 := fun z => by
        have a := Int32.le_iff_toInt_le.mp h1
        have b := Int32.lt_iff_toInt_lt.mp z
        have c : (1 : Int32).toInt = 1 := by decide
        have d : (0 : Int32).toInt = 0 := by decide
        omega
      obtain ⟨j, hj, e⟩ := nI_of2 (x := p) (M := 4) (n := 4) (by decide) h0 h4
      refine ⟨j, ?_, hj, e⟩
      rcases Nat.eq_zero_or_pos j with z | z
      · subst z
        rw [e, nI_0] at h1
        exact absurd h1 (by decide)
      · exact z
    · rw [if_neg h4]
      exact ⟨4, by decide, by decide, rfl⟩
  · rw [if_neg h1, if_pos (by decide)]
    exact ⟨1, by decide, by decide, rfl⟩
/-! ===== the maker ===== -/
section
variable {post : St2 → Prop} {mc ms kc ks : Nat} {f0 f1 f2 f3 : Int32} {a1 a2 a3 a4 a5 a6 a7 : Nat → Int32}
theorem cb_i113 {x3 z0 : Int32} (h : post (f0, (if z0 ≤ x3 then z0 else x3), (1 : Int32) <<< ((if z0 ≤ x3 then z0 else x3) &&& 31), f3, a1, a2, a3, a4, a5, a6, a7)) : wX_init_113 post mc ms x3 z0 kc ks f0 f1 f2 f3 a1 a2 a3 a4 a5 a6 a7 := by
  by_cases hc : z0 ≤ x3
  · rw [if_pos hc] at h
    exact br_t hc (nm_e h)
  · rw [if_neg hc] at h
    exact br_f hc (nm_e h)
theorem cb_i101 {x2 z0 : Int32} (h : post (f0, cb_b x2 z0, (1 : Int32) <<< (cb_b x2 z0 &&& 31), f3, a1, a2, a3, a4, a5, a6, a7)) : wX_init_101 post mc ms x2 z0 kc ks f0 f1 f2 f3 a1 a2 a3 a4 a5 a6 a7 := by
  unfold cb_b at h
  by_cases hc : 1 ≤ x2
  · rw [if_pos hc] at h
    exact br_t hc (cb_i113 h)
  · rw [if_neg hc] at h
    exact br_f hc (cb_i113 h)
theorem cb_i82 {x2 : Int32} (h : post (f0, cb_b x2 (cb_m f0), (1 : Int32) <<< (cb_b x2 (cb_m f0) &&& 31), f3, a1, a2, a3, a4, a5, a6, a7)) : wX_init_82 post mc ms x2 kc ks f0 f1 f2 f3 a1 a2 a3 a4 a5 a6 a7 := by
  unfold cb_m at h
  by_cases hc : 3 ≤ f0
  · rw [if_pos hc] at h
    exact br_t hc (cb_i101 h)
  · rw [if_neg hc] at h
    exact br_f hc (cb_i101 h)
theorem cb_i66 {x2 z0 : Int32} (n : Int32) (hn : n = if z0 ≤ 4 then z0 else 4) (h : post (n, cb_b x2 (cb_m n), (1 : Int32) <<< (cb_b x2 (cb_m n) &&& 31), f3, a1, a2, a3, a4, a5, a6, a7)) : wX_init_66 post mc ms x2 z0 kc ks f0 f1 f2 f3 a1 a2 a3 a4 a5 a6 a7 := by
  by_cases hc : z0 ≤ 4
  · rw [if_pos hc] at hn
    subst hn
    exact br_t hc (cb_i82 h)
  · rw [if_neg hc] at hn
    subst hn
    exact br_f hc (cb_i82 h)
end
theorem cb_init {post : St2 → Prop} {f0 f1 f2 f3 p0 p1 : Int32} (n b : Int32) (hn : n = cb_n p0) (hb : b = cb_b p1 (cb_m n)) (h : post (n, b, (1 : Int32) <<< (b &&& 31), f3, (fun _ => 0), (fun _ => 0), (fun _ => 0), (fun _ => 0), (fun _ => 0), (fun _ => 0), (fun _ => 0))) : wpX_init post 7 140 (f0, f1, f2, f3) p0 p1 := by
  subst hb
  refine ⟨by decide, by decide, by decide, by decide, by decide, by decide, by decide, by decide, by decide, by decide, by decide, by decide, by decide, by decide, ?_⟩
  unfold cb_n at hn
  by_cases hc : 1 ≤ p0
  · rw [if_pos hc] at hn
    exact br_t hc (cb_i66 n hn h)
  · rw [if_neg hc] at hn
    exact br_f hc (cb_i66 n hn h)
/-! ===== isSystem, size, drafted ===== -/
/-- k says whether s names a system -/
def cb_S (s k : Int32) : Prop := (s = 0 ∧ k = 1) ∨ (s = 1 ∧ k = 1) ∨ (¬ s = 0 ∧ ¬ s = 1 ∧ k = 0)
/-- what drafted answers at x -/
def cb_D (n x : Int32) (a : Nat → Int32) (d : Int32) : Prop := (x < 0 ∧ d = -1) ∨ (¬ x < 0 ∧ ¬ x < n ∧ d = -1) ∨ (¬ x < 0 ∧ x < n ∧ ∃ j : Nat, j < 5 ∧ x = nI j ∧ a j = d)
/-- what size answers at s -/
def cb_Z (s k : Int32) (a : Nat → Int32) (r : Int32) : Prop := (k = 0 ∧ r = -1) ∨ (¬ k = 0 ∧ ∃ j : Nat, j < 2 ∧ s = nI j ∧ a j = r)
theorem cb_Sj {s k : Int32} (h : cb_S s k) : (k = 0) ∨ (k = 1 ∧ ∃ j : Nat, j < 2 ∧ s = nI j) := by
  rcases h with ⟨h, e⟩ | ⟨h, e⟩ | ⟨_, _, e⟩
  · exact Or.inr ⟨e, 0, by decide, h⟩
  · exact Or.inr ⟨e, 1, by decide, h⟩
  · exact Or.inl e
theorem cb_isSys {post : Int32 → Prop} {u : St0} {s k : Int32} (hs : cb_S s k) (h : post k) : wpX_isSystem post u s := by
  rcases hs with ⟨e, rfl⟩ | ⟨e, rfl⟩ | ⟨h0, h1, rfl⟩
  · exact br_t e h
  · subst e
    exact br_f (by decide) (br_t rfl h)
  · exact br_f h0 (br_f h1 h)
section
variable {fn fb fm fx : Int32} {a1 a2 a3 a4 a5 a6 a7 : Nat → Int32}
theorem cb_drafted {post : Int32 → Prop} {x d : Int32} (hd : cb_D fn x a3 d) (h : post d) : wpX_drafted post (fn, fb, fm, fx, a1, a2, a3, a4, a5, a6, a7) x := by
  rcases hd with ⟨h1, rfl⟩ | ⟨h1, h2, rfl⟩ | ⟨h1, h2, j, hj, rfl, e⟩
  · exact br_t h1 h
  · exact br_f h1 (br_f h2 h)
  · refine br_f h1 (br_t h2 ⟨vp_in_nI hj (by decide), ?_⟩)
    rw [nI_clamp (show j < 2 ^ 31 by omega), e]
    exact h
theorem cb_size {post : Int32 → Prop} {s k r : Int32} (hs : cb_S s k) (hr : cb_Z s k a2 r) (h : post r) : wpX_size post (fn, fb, fm, fx, a1, a2, a3, a4, a5, a6, a7) s := by
  unfold wpX_size
  dsimp only
  refine cb_isSys hs ?_
  rcases hr with ⟨h0, rfl⟩ | ⟨h0, j, hj, rfl, e⟩
  · exact br_t h0 h
  · refine br_f h0 ⟨vp_in_nI hj (by decide), ?_⟩
    rw [nI_clamp (show j < 2 ^ 31 by omega), e]
    exact h
/-! ===== add ===== -/
theorem cb_add40 {post : Int32 → St2 → Prop} {j k : Nat} {x2 : Int32} (hj : j < 2) (hk : k ≤ 4) (H : ∀ b1 : Nat → Int32, post (a2 j + 1) (nI k, fb, fm, fx, b1, upd a2 j (a2 j + 1), a3, a4, a5, a6, a7)) : ∃ n, wX_add_40 post (nI j) x2 (nI (j * 50)) (nI k) fb fm fx n 0 a1 a2 a3 a4 a5 a6 a7 := by
  refine pk_loop (fun n i s => wX_add_40 post (nI j) x2 (nI (j * 50)) (nI k) fb fm fx n (nI i) s a2 a3 a4 a5 a6 a7) (fun _ _ => True) k 0 a1 (by omega) trivial ?_ ?_
  · intro n s _
    refine pk_le k k (fun _ => ?_) (fun z => absurd z (by omega))
    refine ⟨pk_in (j * 50 + 4) 100 (by omega) (nI_add (j * 50) 4), fun b1 _ => ⟨pk_in j 2 hj, pk_in j 2 hj, ?_⟩⟩
    rw [nI_clamp (show j < 2 ^ 31 by omega)]
    refine nm_e ⟨pk_in j 2 hj, ?_⟩
    rw [pk_us]
    exact H b1
  · intro n i s hi _ hw
    exact pk_le k i (fun z => absurd z (by omega)) (fun _ => ⟨pk_in i 5 (by omega), pk_in (j * 50 + i) 100 (by omega) (nI_add (j * 50) i), nm_e (nm_r (nI_1 i) (hw _ trivial))⟩)
theorem cb_at : ∀ j, j < 2 → (nI j * 10 + 0) * 5 = nI (j * 50) := by decide +kernel
theorem cb_add {post : Int32 → St2 → Prop} {q : Nat} {s k x2 : Int32} (hq : q ≤ 4) (hs : cb_S s k) (hz : ∀ j, j < 2 → a2 j = 0)
    (H0 : k = 0 → post (-1) (nI q, fb, fm, fx, a1, a2, a3, a4, a5, a6, a7))
    (H1 : k = 1 → ∀ b1 b2 : Nat → Int32, cb_Z s k b2 1 → post 1 (nI q, fb, fm, fx, b1, b2, a3, a4, a5, a6, a7)) :
    wpX_add post (nI q, fb, fm, fx, a1, a2, a3, a4, a5, a6, a7) s x2 := by
  unfold wpX_add
  dsimp only
  refine cb_isSys hs ?_
  rcases cb_Sj hs with e | ⟨e, j, hj, es⟩
  · exact br_t e (H0 e)
  · have e0 : ¬ k = 0 := by rw [e]; decide
    subst es
    refine br_f e0 ⟨pk_in j 2 hj, ?_⟩
    rw [nI_clamp (show j < 2 ^ 31 by omega), hz j hj]
    refine br_f (by decide) ⟨pk_in j 2 hj, nm_r (cb_at j hj) (cb_add40 hj hq (fun b1 => ?_))⟩
    have o : a2 j + 1 = 1 := by rw [hz j hj]; decide
    rw [o]
    exact H1 e b1 _ (Or.inr ⟨e0, j, hj, rfl, pk_us⟩)
/-! ===== draft ===== -/
/-- what the law expects of draft -/
def cb_E (n m x c d : Int32) : Prop := (x < 0 ∧ d = -1) ∨ (¬ x < 0 ∧ ¬ x < n ∧ d = -1) ∨ (¬ x < 0 ∧ x < n ∧ d = c &&& (m - 1))
theorem cb_draft {post : Int32 → St2 → Prop} {q : Nat} {x c d : Int32} (hq : q ≤ 4) (he : cb_E (nI q) fm x c d)
    (H : ∀ b3 : Nat → Int32, cb_D (nI q) x b3 d → post d (nI q, fb, fm, fx, a1, a2, b3, a4, a5, a6, a7)) :
    wpX_draft post (nI q, fb, fm, fx, a1, a2, a3, a4, a5, a6, a7) x c := by
  rcases he with ⟨h1, rfl⟩ | ⟨h1, h2, rfl⟩ | ⟨h1, h2, rfl⟩
  · exact br_t h1 (H a3 (Or.inl ⟨h1, rfl⟩))
  · exact br_f h1 (br_f h2 (H a3 (Or.inr (Or.inl ⟨h1, h2, rfl⟩))))
  · obtain ⟨j, hj, rfl⟩ := nI_of h1
    have jq : j < q := (nI_ltI hj (by omega)).mp h2
    refine br_f h1 (br_t h2 ?_)
    refine ⟨pk_in j 5 (by omega), ?_⟩
    rw [nI_clamp hj]
    refine nm_e ⟨pk_in j 5 (by omega), ?_⟩
    rw [pk_us]
    exact H _ (Or.inr (Or.inr ⟨h1, h2, j, by omega, rfl, pk_us⟩))
end
end
section
/-! ===== the law, from its end to its head ===== -/
section
variable {post : Int32 → St0 → Prop} {mc ms kc ks : Nat} {fb fm fx : Int32} {a1 a2 a3 a4 a5 a6 a7 : Nat → Int32}
theorem cb_226 {z : Int32} (hp : post 1 ()) : wL_lawOf_226 post mc ms z z kc ks := br_t rfl hp
theorem cb_191 {fn x2 x4 x12 x13 z : Int32} (hp : post 1 ()) (hd : cb_D fn x2 a3 x12) (hs : cb_S x4 x13) (h0 : x13 = 0 → cb_Z x4 x13 a2 (-1)) (h1 : ¬ x13 = 0 → cb_Z x4 x13 a2 1) : wL_lawOf_191 post mc ms x2 x4 x12 x13 z z kc ks fn fb fm fx a1 a2 a3 a4 a5 a6 a7 := by
  refine br_t rfl (cb_drafted hd (br_t rfl ?_))
  by_cases e : x13 = 0
  · exact cb_size hs (h0 e) (br_t e (cb_226 hp))
  · exact cb_size hs (h1 e) (br_f e (cb_226 hp))
theorem cb_170 {q : Nat} {x2 x4 x5 x12 z0 : Int32} (hp : post 1 ()) (hq : q ≤ 4) (hd : cb_D (nI q) x2 a3 x12) (hs : cb_S x4 z0) (hz : ∀ j, j < 2 → a2 j = 0) : wL_lawOf_170 post mc ms x2 x4 x5 x12 z0 kc ks (nI q) fb fm fx a1 a2 a3 a4 a5 a6 a7 := by
  unfold wL_lawOf_170
  refine cb_add hq hs hz (fun e => ?_) (fun e b1 b2 hb => ?_)
  · exact br_t e (cb_191 hp hd hs (fun _ => Or.inl ⟨e, rfl⟩) (fun z => absurd e z))
  · have e0 : ¬ z0 = 0 := by rw [e]; decide
    exact br_f e0 (cb_191 hp hd hs (fun z => absurd z e0) (fun _ => hb))
theorem cb_138 {q : Nat} {x2 x3 x4 x5 z0 : Int32} (hp : post 1 ()) (hq : q ≤ 4) (he : cb_E (nI q) fm x2 x3 z0) (hz : ∀ j, j < 2 → a2 j = 0) : wL_lawOf_138 post mc ms x2 x3 x4 x5 z0 kc ks (nI q) fb fm fx a1 a2 a3 a4 a5 a6 a7 := by
  unfold wL_lawOf_138
  refine cb_draft hq he (fun b3 hd => br_t rfl ?_)
  refine br_c (fun e => ?_) (fun e => br_c (fun e1 => ?_) (fun e1 => ?_))
  · exact cb_170 hp hq hd (Or.inl ⟨e, rfl⟩) hz
  · exact cb_170 hp hq hd (Or.inr (Or.inl ⟨e1, rfl⟩)) hz
  · exact cb_170 hp hq hd (Or.inr (Or.inr ⟨e, e1, rfl⟩)) hz
theorem cb_78 {q : Nat} {x2 x3 x4 x5 x9 : Int32} (hp : post 1 ()) (hq : q ≤ 4) (hm : fm = (1 : Int32) <<< (x9 &&& 31)) (hz : ∀ j, j < 2 → a2 j = 0) : wL_lawOf_78 post mc ms x2 x3 x4 x5 (nI q) x9 kc ks (nI q) fb fm fx a1 a2 a3 a4 a5 a6 a7 := by
  intro x10 e10
  rw [← hm] at e10
  subst e10
  refine br_t rfl (br_t rfl ?_)
  refine br_c (fun h => ?_) (fun h => ?_)
  · exact br_t rfl (cb_138 hp hq (Or.inl ⟨h, rfl⟩) hz)
  · obtain ⟨j, hj, rfl⟩ := nI_of h
    refine pk_le q j (fun g => ?_) (fun g => ?_)
    · exact br_t rfl (cb_138 hp hq (Or.inr (Or.inl ⟨h, nI_nlt g hj, rfl⟩)) hz)
    · exact br_f (by decide) (cb_138 hp hq (Or.inr (Or.inr ⟨h, nI_lt g (by omega), rfl⟩)) hz)
theorem cb_53 {q : Nat} {x1 x2 x3 x4 x5 m : Int32} (hp : post 1 ()) (hq : q ≤ 4) (hm : fm = (1 : Int32) <<< (cb_b x1 m &&& 31)) (hz : ∀ j, j < 2 → a2 j = 0) : wL_lawOf_53 post mc ms x1 x2 x3 x4 x5 (nI q) m kc ks (nI q) fb fm fx a1 a2 a3 a4 a5 a6 a7 := by
  have W : ∀ x9, fm = (1 : Int32) <<< ((if x9 ≤ m then x9 else m) &&& 31) → wL_lawOf_67 post mc ms x2 x3 x4 x5 (nI q) m x9 kc ks (nI q) fb fm fx a1 a2 a3 a4 a5 a6 a7 := by
    intro x9 h
    by_cases c : x9 ≤ m
    · rw [if_pos c] at h
      exact br_t c (cb_78 hp hq h hz)
    · rw [if_neg c] at h
      exact br_f c (cb_78 hp hq h hz)
  unfold cb_b at hm
  by_cases c : 1 ≤ x1
  · rw [if_pos c] at hm
    exact br_t c (W _ hm)
  · rw [if_neg c] at hm
    exact br_f c (W _ hm)
theorem cb_32 {q : Nat} {x1 x2 x3 x4 x5 : Int32} (hp : post 1 ()) (h1 : 1 ≤ q) (hq : q ≤ 4) (hm : fm = (1 : Int32) <<< (cb_b x1 (cb_m (nI q)) &&& 31)) (hz : ∀ j, j < 2 → a2 j = 0) : wL_lawOf_32 post mc ms x1 x2 x3 x4 x5 (nI q) kc ks (nI q) fb fm fx a1 a2 a3 a4 a5 a6 a7 := by
  refine pk_le 3 q (fun c => pk_eq q 3 (fun d => ?_) (fun d => ?_)) (fun c => ?_)
  · have e : cb_m (nI q) = 3 := by subst d; decide
    rw [e] at hm
    exact cb_53 hp hq hm hz
  · have e : cb_m (nI q) = 2 := by
      have : q = 4 := by omega
      subst this
      decide
    rw [e] at hm
    exact cb_53 hp hq hm hz
  · have e : cb_m (nI q) = 4 := by
      unfold cb_m
      exact if_neg (nI_ge c (by omega))
    rw [e] at hm
    exact cb_53 hp hq hm hz
theorem cb_23 {q : Nat} {n x1 x2 x3 x4 x5 x7 : Int32} (hp : post 1 ()) (h1 : 1 ≤ q) (hq : q ≤ 4) (hn : n = nI q) (h7 : n = if x7 ≤ 4 then x7 else 4) (hm : fm = (1 : Int32) <<< (cb_b x1 (cb_m n) &&& 31)) (hz : ∀ j, j < 2 → a2 j = 0) : wL_lawOf_23 post mc ms x1 x2 x3 x4 x5 x7 kc ks n fb fm fx a1 a2 a3 a4 a5 a6 a7 := by
  subst hn
  by_cases c : x7 ≤ 4
  · rw [if_pos c] at h7
    subst h7
    exact br_t c (cb_32 hp h1 hq hm hz)
  · rw [if_neg c] at h7
    refine br_f c ?_
    rw [← h7]
    exact cb_32 hp h1 hq hm hz
end
theorem cb_lawOf {post : Int32 → St0 → Prop} (hp : post 1 ()) (p0 p1 p2 p3 p4 p5 : Int32) : wpL_lawOf post 8 151 () p0 p1 p2 p3 p4 p5 := by
  obtain ⟨q, h1, hq, e⟩ := cb_nk p0
  refine ⟨by decide, by decide, 7, 140, by decide, by decide, cb_init (cb_n p0) _ rfl rfl ?_⟩
  by_cases c : 1 ≤ p0
  · exact br_t c (cb_23 hp h1 hq e (by unfold cb_n; rw [if_pos c]) rfl (fun _ _ => rfl))
  · exact br_f c (cb_23 hp h1 hq e (by unfold cb_n; rw [if_neg c]) rfl (fun _ _ => rfl))
theorem cb_cell {post : Int32 → Prop} {L : Nat} {xs : Nat → Int32} {u : St0} {p : Int32} (i : Nat) (hi : i < 6) (hp : p = nI i) (hL : L ≤ 6) (h : ∀ r, post r) : wpL_cellAt post L xs u p := by
  subst hp
  exact pk_le L i (fun _ => h _) (fun z => ⟨vp_in_nI z (by omega), h _⟩)
theorem i_vc (xs : Nat → Int32) (L : Nat) (hL : L ≤ 6) : wpL_law (fun r => r = 1) L xs := by
  unfold wpL_law
  refine cb_cell 0 (by decide) rfl hL (fun r1 => ?_)
  refine cb_cell 1 (by decide) rfl hL (fun r2 => ?_)
  refine cb_cell 2 (by decide) rfl hL (fun r3 => ?_)
  refine cb_cell 3 (by decide) rfl hL (fun r4 => ?_)
  refine cb_cell 4 (by decide) rfl hL (fun r5 => ?_)
  refine cb_cell 5 (by decide) rfl hL (fun r6 => ?_)
  exact ⟨8, 151, by decide, by decide, cb_lawOf rfl r1 r2 r3 r4 r5 r6⟩
end
