section
/-- the picture of a pool of none or one creditor: c of them, the claim w, the rank r, no rule but EQUAL -/
def ip_K (c w r : Nat) (a1 a2 a3 : Nat → Int32) : Prop := c ≤ 1 ∧ (c = 0 → w = 0) ∧ w ≤ 150 ∧ r < 4 ∧ a1 0 = nI w ∧ a2 0 = nI r ∧ ∀ j, j < 4 → a3 j = 0
theorem ip_01 {c : Nat} (h : c ≤ 1) : c = 0 ∨ c = 1 := by omega
theorem ip_half {n : Nat} (h : n < 2 ^ 31) : nI n >>> ((1 : Int32) &&& 31) = nI (n / 2) := pk_shrN h ((1 : Int32) &&& 31) 1 (by decide)
/-- total: the claims of a rank -/
theorem ip_total {post : Int32 → Prop} {c w r i : Nat} {f1 f2 : Int32} {a1 a2 a3 a4 a5 a6 : Nat → Int32} (K : ip_K c w r a1 a2 a3) (hi : i < 4)
    (H : post (nI (if r = i then w else 0))) : wpX_total post (nI c, f1, f2, a1, a2, a3, a4, a5, a6) (nI i) := by
  obtain ⟨hc, hw0, hw, hr, h1, h2, h3⟩ := K
  rcases ip_01 hc with e | e
  · subst e
    have ew : w = 0 := hw0 rfl
    subst ew
    have e0 : (if r = i then 0 else 0) = 0 := by split <;> rfl
    rw [e0] at H
    exact ⟨1, pk_le 0 0 (fun _ => H) (fun z => absurd z (by omega))⟩
  · subst e
    refine ⟨2, pk_le 1 0 (fun z => absurd z (by omega)) (fun _ => ⟨pk_in 0 8 (by omega), ?_⟩)⟩
    refine pk_eq r i (fun z => ⟨pk_in 0 8 (by omega), nm_r (e' := nI w) ?_ (nm_r (nI_1 0) ?_)⟩) (fun z => nm_r (e' := nI 0) ?_ (nm_r (nI_1 0) ?_)) h2 rfl
    · exact (Int32.zero_add _).trans h1
    · rw [if_pos z] at H
      exact pk_le 1 1 (fun _ => H) (fun y => absurd y (by omega))
    · exact Int32.zero_add _
    · rw [if_neg z] at H
      exact pk_le 1 1 (fun _ => H) (fun y => absurd y (by omega))
/-- takeLimits(rank, false) -/
theorem ip_limits {post : St2 → Prop} {c w r g i : Nat} {f1 f2 : Int32} {a1 a2 a3 a4 a5 a6 : Nat → Int32} (K : ip_K c w r a1 a2 a3) (hi : i < 4) (h4 : c = 1 → a4 0 = nI g) (hg : r = i → g ≤ w)
    (H : ∀ a, (c = 1 → a 0 = nI (if r = i then w - g else 0)) → post (nI c, f1, f2, a1, a2, a3, a4, a, a6)) : wpX_takeLimits post (nI c, f1, f2, a1, a2, a3, a4, a5, a6) (nI i) 0 := by
  obtain ⟨hc, hw0, hw, hr, h1, h2, h3⟩ := K
  rcases ip_01 hc with e | e
  · subst e
    exact ⟨1, pk_le 0 0 (fun _ => H a5 (fun z => absurd z (by omega))) (fun z => absurd z (by omega))⟩
  · subst e
    refine ⟨2, pk_le 1 0 (fun z => absurd z (by omega)) (fun _ => br_t rfl ⟨pk_in 0 8 (by omega), pk_in 0 8 (by omega), ?_⟩)⟩
    refine pk_eq r i (fun z => ⟨pk_in 0 8 (by omega), pk_in 0 8 (by omega), nm_e (nm_r (nI_1 0) ?_)⟩) (fun z => ⟨pk_in 0 8 (by omega), nm_e (nm_r (nI_1 0) ?_)⟩) h2 rfl
    · refine pk_le 1 1 (fun _ => H _ (fun _ => ?_)) (fun y => absurd y (by omega))
      show upd a5 0 (a1 0 - a4 0) 0 = _
      rw [pk_us, h1, h4 rfl, if_pos z, pk_sub (hg z)]
    · refine pk_le 1 1 (fun _ => H _ (fun _ => ?_)) (fun y => absurd y (by omega))
      show upd a5 0 0 0 = _
      rw [pk_us, if_neg z, nI_0]
/-- awarded: what a level costs -/
theorem ip_awarded {post : Int32 → Prop} {c l m : Nat} {f1 f2 : Int32} {a1 a2 a3 a4 a5 a6 : Nat → Int32} (hc : c ≤ 1) (h0 : c = 0 → l = 0) (h5 : c = 1 → a5 0 = nI l) (hl : l ≤ 150) (hm : m ≤ 150)
    (H : post (nI (min l m))) : wpX_awarded post (nI c, f1, f2, a1, a2, a3, a4, a5, a6) (nI m) := by
  rcases ip_01 hc with e | e
  · subst e
    rw [h0 rfl, Nat.zero_min] at H
    exact ⟨1, pk_le 0 0 (fun _ => H) (fun z => absurd z (by omega))⟩
  · subst e
    refine ⟨2, pk_le 1 0 (fun z => absurd z (by omega)) (fun _ => ⟨pk_in 0 8 (by omega), ?_⟩)⟩
    refine pk_le m l (fun z => nm_r (e' := nI m) (Int32.zero_add _) (nm_r (nI_1 0) ?_)) (fun z => ⟨pk_in 0 8 (by omega), nm_r (e' := nI l) ?_ (nm_r (nI_1 0) ?_)⟩) rfl (h5 rfl)
    · rw [show min l m = m by omega] at H
      exact pk_le 1 1 (fun _ => H) (fun y => absurd y (by omega))
    · exact (Int32.zero_add _).trans (h5 rfl)
    · rw [show min l m = l by omega] at H
      exact pk_le 1 1 (fun _ => H) (fun y => absurd y (by omega))
/-- award's halving: ends at a level that costs the units just -/
theorem ip_search {post : St2 → Prop} {c l u : Nat} {f1 f2 : Int32} {a1 a2 a3 a4 a5 a6 : Nat → Int32} (hc : c ≤ 1) (h0 : c = 0 → l = 0) (h5 : c = 1 → a5 0 = nI l) (hl : l ≤ 150) (hu : u ≤ l)
    (H : ∀ lo, lo ≤ 150 → min l lo = u → wX_award_57 post (nI u) (nI lo) (nI c) f1 f2 a1 a2 a3 a4 a5 a6) :
    ∀ n k lo hi, lo ≤ hi → hi ≤ 150 → hi - lo < 2 ^ n → k + n ≤ 8 → min l lo ≤ u → (hi < 150 → u < min l (hi + 1)) → wX_award_9 post (nI u) (nI c) f1 f2 a1 a2 a3 a4 a5 a6 (n + 1) (nI lo) (nI hi) (nI k) := by
  intro n
  induction n with
  | zero =>
    intro k lo hi h1 h2 h3 h4 g1 g2
    have h3' : hi - lo < 1 := h3
    exact pk_le 9 k (fun z => absurd z (by omega)) (fun _ => pk_le hi lo (fun z => H lo (by omega) (by omega)) (fun z => absurd z (by omega)))
  | succ n ih =>
    intro k lo hi h1 h2 h3 h4 g1 g2
    rw [Nat.pow_succ] at h3
    refine pk_le 9 k (fun z => absurd z (by omega)) (fun _ => pk_le hi lo (fun z => H lo (by omega) (by omega)) (fun z => nm_r (e' := nI ((lo + hi + 1) / 2)) ?_ ?_))
    · rw [nI_add, nI_1]
      exact ip_half (by omega)
    · refine ip_awarded hc h0 h5 hl (by omega) (pk_lt u (min l ((lo + hi + 1) / 2)) (fun y => nm_r (e' := nI ((lo + hi + 1) / 2 - 1)) (pk_sub (b := 1) (by omega)) (nm_r (nI_1 k) ?_)) (fun y => nm_r (nI_1 k) ?_))
      · exact ih (k + 1) lo ((lo + hi + 1) / 2 - 1) (by omega) (by omega) (by omega) (by omega) g1 (fun _ => by rw [show (lo + hi + 1) / 2 - 1 + 1 = (lo + hi + 1) / 2 by omega]; exact y)
      · exact ih (k + 1) ((lo + hi + 1) / 2) hi (by omega) (by omega) (by omega) (by omega) y g2
theorem ip_57 {post : St2 → Prop} {c l u g lo : Nat} {f1 f2 : Int32} {a1 a2 a3 a4 a5 a6 : Nat → Int32} (hc : c ≤ 1) (h0 : c = 0 → l = 0) (h5 : c = 1 → a5 0 = nI l) (h4 : c = 1 → a4 0 = nI g) (hl : l ≤ 150) (hlo : lo ≤ 150) (hm : min l lo = u)
    (H : ∀ a, (c = 1 → a 0 = nI (g + u)) → post (nI c, f1, f2, a1, a2, a3, a, a5, a6)) : wX_award_57 post (nI u) (nI lo) (nI c) f1 f2 a1 a2 a3 a4 a5 a6 := by
  unfold wX_award_57
  refine ip_awarded hc h0 h5 hl hlo (nm_r (e' := nI 0) (by rw [hm, pk_sub (Nat.le_refl u), Nat.sub_self]) ?_)
  rcases ip_01 hc with e | e
  · subst e
    exact ⟨1, pk_le 0 0 (fun _ => H a4 (fun z => absurd z (by omega))) (fun z => absurd z (by omega))⟩
  · subst e
    have K2 : ∀ t : Int32, t = nI u → wX_award_131 post (wX_award_69 post (nI lo) (nI 1) f1 f2 1) (nI lo) (nI 0) 0 0 t (a4 0) 0 (nI 1) f1 f2 a1 a2 a3 a4 a5 a6 := by
      intro t ht
      refine br_t rfl ⟨pk_in 0 8 (by omega), nm_e (br_t rfl (nm_e (nm_r (nI_1 0) ?_)))⟩
      refine pk_le 1 1 (fun _ => H _ (fun _ => ?_)) (fun y => absurd y (by omega))
      show upd a4 0 (a4 0 + (t + 0)) 0 = _
      rw [pk_us, h4 rfl, ht, Int32.add_zero, nI_add]
    have K1 : wX_award_98 post (wX_award_69 post (nI lo) (nI 1) f1 f2 1) (nI lo) (nI 0) 0 (nI 1) f1 f2 a1 a2 a3 a4 a5 a6 := by
      unfold wX_award_98 wX_award_99
      exact ⟨pk_in 0 8 (by omega), pk_in 0 8 (by omega), pk_le lo l (fun z => K2 (nI lo) (by rw [← hm]; congr 1; omega)) (fun z => ⟨pk_in 0 8 (by omega), K2 (a5 0) (by rw [h5 rfl, ← hm]; congr 1; omega)⟩) rfl (h5 rfl)⟩
    exact ⟨2, pk_le 1 0 (fun z => absurd z (by omega)) (fun _ => ⟨pk_in 0 8 (by omega), pk_le l lo (fun _ => K1) (fun _ => pk_le 0 0 (fun _ => K1) (fun z => absurd z (by omega))) (h5 rfl) rfl⟩)⟩
/-- award -/
theorem ip_award {post : St2 → Prop} {c l u g : Nat} {f1 f2 : Int32} {a1 a2 a3 a4 a5 a6 : Nat → Int32} (hc : c ≤ 1) (h0 : c = 0 → l = 0) (h5 : c = 1 → a5 0 = nI l) (h4 : c = 1 → a4 0 = nI g) (hl : l ≤ 150) (hu : u ≤ l)
    (H : ∀ a, (c = 1 → a 0 = nI (g + u)) → post (nI c, f1, f2, a1, a2, a3, a, a5, a6)) : wpX_award post (nI c, f1, f2, a1, a2, a3, a4, a5, a6) (nI u) :=
  ⟨9, ip_search hc h0 h5 hl hu (fun _ hlo hm => ip_57 hc h0 h5 h4 hl hlo hm H) 8 0 0 150 (by omega) (by omega) (by decide) (by omega) (by omega) (fun z => absurd z (by omega))⟩
/-- shareRank, rule EQUAL -/
theorem ip_rank {post : St2 → Prop} {c w r g i u : Nat} {x f1 f2 : Int32} {a1 a2 a3 a4 a5 a6 : Nat → Int32} (K : ip_K c w r a1 a2 a3) (hi : i < 4) (h4 : c = 1 → a4 0 = nI g) (hg : r = i → g ≤ w) (hu : u ≤ if r = i then w - g else 0)
    (H : ∀ a b, (c = 1 → a 0 = nI (g + u)) → post (nI c, f1, f2, a1, a2, a3, a, b, a6)) : wpX_shareRank post (nI c, f1, f2, a1, a2, a3, a4, a5, a6) (nI i) (nI u) x := by
  have K' := K
  obtain ⟨hc, hw0, hw, hr, h1, h2, h3⟩ := K
  refine ⟨pk_in i 4 hi, br_t ?_ (ip_limits K' hi h4 hg (fun b hb => ip_award hc (fun z => ?_) hb h4 ?_ hu (fun a ha => H a b ha)))⟩
  · rw [nI_clamp (by omega)]
    exact h3 i hi
  · have := hw0 z
    split <;> omega
  · split <;> omega
/-- shareOut's ranks -/
theorem ip_27 {post : St2 → Prop} {c w r m : Nat} {f1 f2 : Int32} {a1 a2 a3 a4 a5 a6 : Nat → Int32} (K : ip_K c w r a1 a2 a3) (hm : m ≤ 1500) (h4 : c = 1 → a4 0 = nI 0)
    (H : ∀ a b, (c = 1 → a 0 = nI (min m w)) → post (nI c, f1, nI (m - min m w), a1, a2, a3, a, b, a6)) : ∃ n, wX_shareOut_27 post n (nI m) 0 (nI c) f1 f2 a1 a2 a3 a4 a5 a6 := by
  have K' := K
  obtain ⟨hc, hw0, hw, hr, h1, h2, h3⟩ := K
  refine pk_loop (fun n i s => wX_shareOut_27 post n s.1 (nI i) (nI c) f1 f2 a1 a2 a3 s.2.1 s.2.2 a6)
    (fun i (s : Int32 × (Nat → Int32) × (Nat → Int32)) => s.1 = nI (if r < i then m - min m w else m) ∧ (c = 1 → s.2.1 0 = nI (if r < i then min m w else 0))) 4 0 (nI m, a4, a5) (by omega) ⟨rfl, h4⟩ ?_ ?_
  · intro n s h
    obtain ⟨x, a, b⟩ := s
    obtain ⟨hx, ha⟩ := h
    dsimp only at hx ha ⊢
    rw [if_pos hr] at hx ha
    subst hx
    exact pk_le 4 4 (fun _ => H a b ha) (fun z => absurd z (by omega))
  · intro n i s hi h hw'
    obtain ⟨x, a, b⟩ := s
    obtain ⟨hx, ha⟩ := h
    dsimp only at hx ha ⊢
    subst hx
    have st : ∀ u, u = min (if r < i then m - min m w else m) (if r = i then w else 0) → wX_shareOut_51 post (wX_shareOut_27 post n) (nI (if r < i then m - min m w else m)) (nI i) (nI (if r = i then w else 0)) (nI u) (nI c) f1 f2 a1 a2 a3 a b a6 := by
      intro u hu
      unfold wX_shareOut_51
      have e1 : (if r < i then m - min m w else m) - u = if r < i + 1 then m - min m w else m := by
        rw [hu]
        split <;> split <;> split <;> omega
      have e2 : (if r < i then min m w else 0) + u = if r < i + 1 then min m w else 0 := by
        rw [hu]
        split <;> split <;> split <;> omega
      refine ip_rank K' hi ha (fun z => ?_) ?_ (fun a' b' h' => nm_r (e' := nI (if r < i + 1 then m - min m w else m)) ?_ (nm_r (nI_1 i) (hw' (_, a', b') ⟨rfl, fun z => ?_⟩)))
      · split <;> omega
      · rw [hu]
        split <;> split <;> omega
      · rw [pk_sub (by omega), e1]
      · show a' 0 = _
        rw [h' z, e2]
    have b1 : (if r = i then w else 0) ≤ 150 := by split <;> omega
    have b2 : (if r < i then m - min m w else m) ≤ 1500 := by split <;> omega
    refine pk_le 4 i (fun z => absurd z (by omega)) (fun _ => ip_total K' hi (pk_le (if r = i then w else 0) (if r < i then m - min m w else m) (fun z => st _ (by omega)) (fun z => st _ (by omega))))
/-- shareOut -/
theorem ip_out {post : St2 → Prop} {c w r m : Nat} {f1 f2 : Int32} {a1 a2 a3 a4 a5 a6 : Nat → Int32} (K : ip_K c w r a1 a2 a3) (hm : m ≤ 1500)
    (H : ∀ a b, (c = 1 → a 0 = nI (min m w)) → post (nI c, f1, nI (m - min m w), a1, a2, a3, a, b, a6)) : wpX_shareOut post (nI c, f1, f2, a1, a2, a3, a4, a5, a6) (nI m) := by
  have K' := K
  obtain ⟨hc, hw0, hw, hr, h1, h2, h3⟩ := K
  rcases ip_01 hc with e | e
  · subst e
    exact ⟨1, pk_le 0 0 (fun _ => ip_27 K' hm (fun z => absurd z (by omega)) H) (fun z => absurd z (by omega))⟩
  · subst e
    refine ⟨2, pk_le 1 0 (fun z => absurd z (by omega)) (fun _ => ⟨pk_in 0 8 (by omega), nm_e (nm_r (nI_1 0) (pk_le 1 1 (fun _ => ip_27 K' hm (fun _ => ?_) H) (fun y => absurd y (by omega))))⟩)⟩
    show upd a4 0 0 0 = _
    rw [pk_us, nI_0]
/-- left -/
theorem ip_left {post : Int32 → St2 → Prop} {c w r m : Nat} {f2 : Int32} {a1 a2 a3 a4 a5 a6 : Nat → Int32} (K : ip_K c w r a1 a2 a3) (hm : m ≤ 1500)
    (H : ∀ f a b, post (nI (m - min m w)) (nI c, nI m, f, a1, a2, a3, a, b, a6)) : wpX_left post (nI c, nI m, f2, a1, a2, a3, a4, a5, a6) := by
  unfold wpX_left
  exact ip_out K hm (fun a b _ => H _ a b)
/-- worst -/
theorem ip_worst {post : Int32 → St2 → Prop} {c w r m : Nat} {f2 : Int32} {a1 a2 a3 a4 a5 a6 : Nat → Int32} (K : ip_K c w r a1 a2 a3) (hm : m ≤ 1500)
    (H : ∀ f a b, post (nI (w - min m w)) (nI c, nI m, f, a1, a2, a3, a, b, a6)) : wpX_worst post (nI c, nI m, f2, a1, a2, a3, a4, a5, a6) := by
  unfold wpX_worst
  refine ip_out K hm (fun a b ha => ?_)
  obtain ⟨hc, hw0, hw, hr, h1, h2, h3⟩ := K
  have H' := H (nI (m - min m w)) a b
  rcases ip_01 hc with e | e
  · subst e
    rw [hw0 rfl, Nat.zero_sub] at H'
    rw [hw0 rfl]
    exact ⟨1, pk_le 0 0 (fun _ => H') (fun z => absurd z (by omega))⟩
  · subst e
    refine ⟨2, pk_le 1 0 (fun z => absurd z (by omega)) (fun _ => ⟨pk_in 0 8 (by omega), pk_in 0 8 (by omega), nm_r (e' := nI (w - min m w)) ?_ ?_⟩)⟩
    · show a1 0 - a 0 = _
      rw [h1, ha rfl, pk_sub (by omega)]
    · refine pk_le (w - min m w) 0 (fun z => nm_r (nI_1 0) (pk_le 1 1 (fun _ => ?_) (fun y => absurd y (by omega)))) (fun z => nm_r (nI_1 0) (pk_le 1 1 (fun _ => H') (fun y => absurd y (by omega))))
      rw [show w - min m w = 0 by omega] at H'
      exact H'
end
section
/-- an int outside 0 .. N -/
def ip_bad (x : Int32) (N : Nat) : Prop := x < 0 ∨ ∃ j, j < 2 ^ 31 ∧ N < j ∧ x = nI j
theorem ip_bg (x : Int32) (N : Nat) : ip_bad x N ∨ ∃ j, j ≤ N ∧ x = nI j := by
  by_cases h : x < 0
  · exact Or.inl (Or.inl h)
  · obtain ⟨j, hj, e⟩ := nI_of h
    by_cases g : N < j
    · exact Or.inl (Or.inr ⟨j, hj, g, e⟩)
    · exact Or.inr ⟨j, by omega, e⟩
theorem ip_b1 {x : Int32} {A B : Prop} (N : Nat) (hN : N < 2 ^ 31) (h : ip_bad x N) (a : A) : (x < 0 → A) ∧ (¬ x < 0 → ((nI N < x → A) ∧ (¬ nI N < x → B))) := by
  rcases h with h | ⟨j, hj, g, e⟩
  · exact br_t h a
  · subst e
    exact br_f (nI_pos hj) (br_t (nI_lt g hj) a)
theorem ip_g1 {x : Int32} {A B : Prop} (N : Nat) (hN : N < 2 ^ 31) (h : ∃ j, j ≤ N ∧ x = nI j) (b : B) : (x < 0 → A) ∧ (¬ x < 0 → ((nI N < x → A) ∧ (¬ nI N < x → B))) := by
  obtain ⟨j, hj, e⟩ := h
  subst e
  exact br_f (nI_pos (by omega)) (br_f (nI_nlt hj hN) b)
theorem ip_b2 {x : Int32} {A B : Prop} (N : Nat) (hN : N < 2 ^ 31) (h : ip_bad x N) (a : A) : (x < 0 → A) ∧ (¬ x < 0 → ((x ≤ nI N → B) ∧ (¬ x ≤ nI N → A))) := by
  rcases h with h | ⟨j, hj, g, e⟩
  · exact br_t h a
  · subst e
    exact br_f (nI_pos hj) (br_f (nI_ge g hj) a)
theorem ip_g2 {x : Int32} {A B : Prop} (N : Nat) (hN : N < 2 ^ 31) (h : ∃ j, j ≤ N ∧ x = nI j) (b : B) : (x < 0 → A) ∧ (¬ x < 0 → ((x ≤ nI N → B) ∧ (¬ x ≤ nI N → A))) := by
  obtain ⟨j, hj, e⟩ := h
  subst e
  exact br_f (nI_pos (by omega)) (br_t (nI_le hj hN) b)
theorem ip_b3 {x : Int32} {A B : Prop} (N : Nat) (hN : N + 1 < 2 ^ 31) (h : ip_bad x N) (a : A) : (x < 0 → A) ∧ (¬ x < 0 → ((nI (N + 1) ≤ x → A) ∧ (¬ nI (N + 1) ≤ x → B))) := by
  rcases h with h | ⟨j, hj, g, e⟩
  · exact br_t h a
  · subst e
    exact br_f (nI_pos hj) (br_t (nI_le (by omega) hj) a)
theorem ip_g3 {x : Int32} {A B : Prop} (N : Nat) (hN : N + 1 < 2 ^ 31) (h : ∃ j, j ≤ N ∧ x = nI j) (b : B) : (x < 0 → A) ∧ (¬ x < 0 → ((nI (N + 1) ≤ x → A) ∧ (¬ nI (N + 1) ≤ x → B))) := by
  obtain ⟨j, hj, e⟩ := h
  subst e
  exact br_f (nI_pos (by omega)) (br_f (nI_ge (by omega) hN) b)
/-- isCreditor -/
theorem ip_cred {post : Int32 → Prop} {c : Nat} {x f1 f2 : Int32} {a1 a2 a3 a4 a5 a6 : Nat → Int32} (hc : c ≤ 1) (H0 : ¬ (c = 1 ∧ x = 0) → post 0) (H1 : c = 1 → x = 0 → post 1) : wpX_isCreditor post (nI c, f1, f2, a1, a2, a3, a4, a5, a6) x := by
  unfold wpX_isCreditor
  refine br_c (fun h => H0 (fun t => ?_)) (fun h => ?_)
  · rw [t.2] at h
    exact absurd h (by decide)
  · obtain ⟨j, hj, e⟩ := nI_of h
    subst e
    refine pk_le c j (fun z => H0 (fun t => ?_)) (fun z => H1 (by omega) ?_)
    · have := (nI_eq hj (show 0 < 2 ^ 31 by omega)).mp t.2
      omega
    · rw [show j = 0 by omega, nI_0]
/-- shareOf -/
theorem ip_shareOf {post : Int32 → St2 → Prop} {c w r : Nat} {x y f1 f2 : Int32} {a1 a2 a3 a4 a5 a6 : Nat → Int32} (K : ip_K c w r a1 a2 a3)
    (H0 : ¬ (c = 1 ∧ x = 0) → post (-1) (nI c, f1, f2, a1, a2, a3, a4, a5, a6))
    (H1 : c = 1 → x = 0 → ip_bad y 1500 → post (-2) (nI c, f1, f2, a1, a2, a3, a4, a5, a6))
    (H2 : c = 1 → x = 0 → ∀ m, m ≤ 1500 → y = nI m → ∀ f a b, post (nI (min m w)) (nI c, f1, f, a1, a2, a3, a, b, a6)) : wpX_shareOf post (nI c, f1, f2, a1, a2, a3, a4, a5, a6) x y := by
  unfold wpX_shareOf
  refine ip_cred K.1 (fun h => br_t rfl (H0 h)) (fun hc hx => br_f (by decide) ?_)
  rcases ip_bg y 1500 with h | h
  · exact ip_b2 1500 (by omega) h (H1 hc hx h)
  · refine ip_g2 1500 (by omega) h ?_
    obtain ⟨m, hm, e⟩ := h
    subst e
    refine ip_out K hm (fun a b ha => ?_)
    have h2 := H2 hc hx m hm rfl (nI (m - min m w)) a b
    subst hx
    rw [← ha hc] at h2
    exact ⟨pk_in 0 8 (by omega), h2⟩
/-- leastEstate's halving -/
theorem ip_47 {post : Int32 → St2 → Prop} {w r q : Nat} {f1 : Int32} {a1 a2 a3 a6 : Nat → Int32} (K : ip_K 1 w r a1 a2 a3) (hq : q ≤ w) (H : ∀ f a b, post (nI q) (nI 1, f1, f, a1, a2, a3, a, b, a6)) :
    ∀ n k lo hi f2 a4 a5, lo ≤ q → q ≤ hi → hi ≤ 1500 → hi - lo < 2 ^ n → k + n ≤ 11 → wX_leastEstate_47 post 0 (nI q) (n + 1) (nI lo) (nI hi) (nI k) (nI 1) f1 f2 a1 a2 a3 a4 a5 a6 := by
  have hw := K.2.2.1
  intro n
  induction n with
  | zero =>
    intro k lo hi f2 a4 a5 h1 h2 h3 h4 h5
    have h4' : hi - lo < 1 := h4
    have e : lo = q := by omega
    subst e
    exact pk_le 12 k (fun z => absurd z (by omega)) (fun _ => pk_le hi lo (fun z => H f2 a4 a5) (fun z => absurd z (by omega)))
  | succ n ih =>
    intro k lo hi f2 a4 a5 h1 h2 h3 h4 h5
    rw [Nat.pow_succ] at h4
    refine pk_le 12 k (fun z => absurd z (by omega)) (fun _ => pk_le hi lo (fun z => ?_) (fun z => nm_r (e' := nI ((lo + hi) / 2)) ?_ ?_))
    · have e : lo = q := by omega
      subst e
      exact H f2 a4 a5
    · rw [nI_add]
      exact ip_half (by omega)
    · refine ip_out K (by omega) (fun a b ha => ⟨pk_in 0 8 (by omega), pk_lt (min ((lo + hi) / 2) w) q (fun y => nm_r (nI_1 _) (nm_r (nI_1 k) ?_)) (fun y => nm_r (nI_1 k) ?_) (ha rfl) rfl⟩)
      · exact ih (k + 1) ((lo + hi) / 2 + 1) hi _ a b (by omega) (by omega) (by omega) (by omega) (by omega)
      · exact ih (k + 1) lo ((lo + hi) / 2) _ a b (by omega) (by omega) (by omega) (by omega) (by omega)
/-- leastEstate -/
theorem ip_least {post : Int32 → St2 → Prop} {c w r : Nat} {x y f1 f2 : Int32} {a1 a2 a3 a4 a5 a6 : Nat → Int32} (K : ip_K c w r a1 a2 a3)
    (H0 : ¬ (c = 1 ∧ x = 0) → post (-1) (nI c, f1, f2, a1, a2, a3, a4, a5, a6))
    (H1 : c = 1 → x = 0 → ip_bad y 150 → post (-2) (nI c, f1, f2, a1, a2, a3, a4, a5, a6))
    (H2 : c = 1 → x = 0 → ∀ q, q ≤ 150 → y = nI q → w < q → post (-3) (nI c, f1, f2, a1, a2, a3, a4, a5, a6))
    (H3 : c = 1 → x = 0 → ∀ q, q ≤ 150 → y = nI q → q ≤ w → ∀ f a b, post (nI q) (nI c, f1, f, a1, a2, a3, a, b, a6)) : wpX_leastEstate post (nI c, f1, f2, a1, a2, a3, a4, a5, a6) x y := by
  unfold wpX_leastEstate
  refine ip_cred K.1 (fun h => br_t rfl (H0 h)) (fun hc hx => br_f (by decide) ?_)
  rcases ip_bg y 150 with h | h
  · exact ip_b2 150 (by omega) h (H1 hc hx h)
  · refine ip_g2 150 (by omega) h ?_
    obtain ⟨q, hq, e⟩ := h
    have hw := K.2.2.1
    have h1 := K.2.2.2.2.1
    subst hx
    subst hc
    have h3 := H3 rfl rfl q hq e
    have h2 := H2 rfl rfl q hq e
    subst e
    exact ⟨pk_in 0 8 (by omega), pk_le q w (fun z => ⟨12, ip_47 K z (h3 z) 11 0 0 1500 f2 a4 a5 (by omega) (by omega) (by omega) (by decide) (by omega)⟩) (fun z => h2 z) rfl h1⟩
end
section
/-- the last call: leastEstate -/
theorem ip_303 {post : Int32 → St0 → Prop} (hp : post 1 ()) {mc ms kc ks c w r : Nat} {x0 x3 x4 x13 z0 f1 f2 : Int32} {a1 a2 a3 a4 a5 a6 : Nat → Int32} (K : ip_K c w r a1 a2 a3) (h0 : c = 1 → x0 = nI w)
    (g0 : ¬ (c = 1 ∧ x4 = 0) → x13 = 0) (g1 : c = 1 → x4 = 0 → x13 = 1) (n0 : ip_bad x3 150 → z0 = 0) (n1 : (∃ j, j ≤ 150 ∧ x3 = nI j) → z0 = 1) :
    wL_lawOf_303 post mc ms x0 x3 x4 x13 z0 kc ks (nI c) f1 f2 a1 a2 a3 a4 a5 a6 := by
  have hw := K.2.2.1
  unfold wL_lawOf_303
  refine ip_least K (fun h => br_t (g0 h) (br_t rfl hp)) (fun hc hx h => ?_) (fun hc hx q hq e z => ?_) (fun hc hx q hq e z f a b => ?_)
  · have e1 := g1 hc hx
    subst e1
    exact br_f (by decide) (br_t (n0 h) (br_t rfl hp))
  · have e1 := g1 hc hx
    have e2 := n1 ⟨q, hq, e⟩
    have e3 := h0 hc
    subst e1 e2 e3 e
    exact br_f (by decide) (br_f (by decide) (br_t (nI_lt z (by omega)) (br_t rfl hp)))
  · have e1 := g1 hc hx
    have e2 := n1 ⟨q, hq, e⟩
    have e3 := h0 hc
    subst e1 e2 e3 e
    exact br_f (by decide) (br_f (by decide) (br_f (nI_nlt z (by omega)) (br_t rfl hp)))
theorem ip_282 {post : Int32 → St0 → Prop} (hp : post 1 ()) {mc ms kc ks c w r : Nat} {x0 x3 x4 x13 z0 z1 f1 f2 : Int32} {a1 a2 a3 a4 a5 a6 : Nat → Int32} (K : ip_K c w r a1 a2 a3) (h0 : c = 1 → x0 = nI w)
    (g0 : ¬ (c = 1 ∧ x4 = 0) → x13 = 0) (g1 : c = 1 → x4 = 0 → x13 = 1) (hz : z1 = z0) :
    wL_lawOf_282 post mc ms x0 x3 x4 x13 z0 z1 kc ks (nI c) f1 f2 a1 a2 a3 a4 a5 a6 := by
  unfold wL_lawOf_282 wL_lawOf_302
  refine br_t hz ?_
  rcases ip_bg x3 150 with h | h
  · refine ip_b1 150 (by omega) h (ip_303 hp K h0 g0 g1 (fun _ => rfl) (fun g => ?_))
    obtain ⟨j, hj, e⟩ := g
    subst e
    rcases h with h | ⟨i, hi, g, e⟩
    · exact absurd h (nI_pos (by omega))
    · have := (nI_eq (by omega) hi).mp e
      omega
  · refine ip_g1 150 (by omega) h (ip_303 hp K h0 g0 g1 (fun g => ?_) (fun _ => rfl))
    obtain ⟨j, hj, e⟩ := h
    subst e
    rcases g with h | ⟨i, hi, g, e⟩
    · exact absurd h (nI_pos (by omega))
    · have := (nI_eq (by omega) hi).mp e
      omega
/-- the call of shareOf: x14 says whether the amount is one, z0 is what is due -/
theorem ip_251 {post : Int32 → St0 → Prop} (hp : post 1 ()) {mc ms kc ks c w r : Nat} {x0 x3 x4 x13 x14 z0 f1 f2 : Int32} {a1 a2 a3 a4 a5 a6 : Nat → Int32} (K : ip_K c w r a1 a2 a3) (h0 : c = 1 → x0 = nI w)
    (g0 : ¬ (c = 1 ∧ x4 = 0) → x13 = 0) (g1 : c = 1 → x4 = 0 → x13 = 1) (s0 : ip_bad x3 1500 → x14 = 0) (s1 : ∀ m, m ≤ 1500 → x3 = nI m → x14 = 1 ∧ z0 = nI (min m w)) :
    wL_lawOf_251 post mc ms x0 x3 x4 x13 x14 z0 kc ks (nI c) f1 f2 a1 a2 a3 a4 a5 a6 := by
  unfold wL_lawOf_251
  refine ip_shareOf K (fun h => br_t (g0 h) (ip_282 hp K h0 g0 g1 rfl)) (fun hc hx h => ?_) (fun hc hx m hm e f a b => ?_)
  · have e1 := g1 hc hx
    exact br_f (by rw [e1]; decide) (br_t (s0 h) (ip_282 hp K h0 g0 g1 rfl))
  · have e1 := g1 hc hx
    obtain ⟨e2, e3⟩ := s1 m hm e
    exact br_f (by rw [e1]; decide) (br_f (by rw [e2]; decide) (ip_282 hp K h0 g0 g1 e3.symm))
theorem ip_214 {post : Int32 → St0 → Prop} (hp : post 1 ()) {mc ms kc ks c w r : Nat} {x0 x3 x4 x13 f1 f2 : Int32} {a1 a2 a3 a4 a5 a6 : Nat → Int32} (K : ip_K c w r a1 a2 a3) (h0 : c = 1 → x0 = nI w)
    (g0 : ¬ (c = 1 ∧ x4 = 0) → x13 = 0) (g1 : c = 1 → x4 = 0 → x13 = 1) :
    wL_lawOf_214 post mc ms x0 x3 x4 (nI w) x13 kc ks (nI c) f1 f2 a1 a2 a3 a4 a5 a6 := by
  have hw := K.2.2.1
  unfold wL_lawOf_214 wL_lawOf_231 wL_lawOf_232 wL_lawOf_249
  rcases ip_bg x3 1500 with h | h
  · refine ip_b1 1500 (by omega) h (br_t rfl (ip_251 hp K h0 g0 g1 (fun _ => rfl) (fun m hm e => ?_)))
    subst e
    rcases h with h | ⟨i, hi, g, e⟩
    · exact absurd h (nI_pos (by omega))
    · have := (nI_eq (by omega) hi).mp e
      omega
  · refine ip_g1 1500 (by omega) h (br_f (by decide) ?_)
    obtain ⟨m, hm, e⟩ := h
    subst e
    have nb : ip_bad (nI m) 1500 → (1 : Int32) = 0 := by
      intro g
      rcases g with h | ⟨i, hi, g, e⟩
      · exact absurd h (nI_pos (by omega))
      · have := (nI_eq (by omega) hi).mp e
        omega
    refine pk_le w m (fun z => ip_251 hp K h0 g0 g1 nb (fun m' hm' e => ⟨rfl, ?_⟩)) (fun z => ip_251 hp K h0 g0 g1 nb (fun m' hm' e => ⟨rfl, ?_⟩))
    · have := (nI_eq (by omega) (by omega)).mp e
      congr 1
      omega
    · have := (nI_eq (by omega) (by omega)).mp e
      congr 1
      omega
/-- the calls of left and worst -/
theorem ip_169 {post : Int32 → St0 → Prop} (hp : post 1 ()) {mc ms kc ks c w r d : Nat} {x0 x3 x4 z0 f2 : Int32} {a1 a2 a3 a4 a5 a6 : Nat → Int32} (K : ip_K c w r a1 a2 a3) (h0 : c = 1 → x0 = nI w) (hd : d ≤ 1500) (hz : z0 = nI (min d w)) :
    wL_lawOf_169 post mc ms x0 x3 x4 (nI c) (nI d) (nI w) z0 kc ks (nI c) (nI d) f2 a1 a2 a3 a4 a5 a6 := by
  have hw := K.2.2.1
  have hc := K.1
  subst hz
  unfold wL_lawOf_169 wL_lawOf_213
  refine ip_left K hd (fun f a b => br_t (pk_sub (by omega)).symm ?_)
  refine ip_worst K hd (fun f a b => br_t (pk_sub (by omega)).symm ?_)
  refine pk_eq c 0 (fun z => ip_214 hp K h0 (fun _ => rfl) (fun t => absurd t (by omega))) (fun z => br_c (fun e => ?_) (fun e => ?_))
  · exact ip_214 hp K h0 (fun t => absurd ⟨by omega, e⟩ t) (fun _ _ => rfl)
  · exact ip_214 hp K h0 (fun _ => rfl) (fun _ t => absurd t e)
theorem ip_141 {post : Int32 → St0 → Prop} (hp : post 1 ()) {mc ms kc ks c w r d : Nat} {x0 x3 x4 f2 : Int32} {a1 a2 a3 a4 a5 a6 : Nat → Int32} (K : ip_K c w r a1 a2 a3) (h0 : c = 1 → x0 = nI w) (hd : d ≤ 1500) :
    wL_lawOf_141 post mc ms x0 x3 x4 (nI c) (nI d) kc ks (nI c) (nI d) f2 a1 a2 a3 a4 a5 a6 := by
  have hw := K.2.2.1
  have hc := K.1
  have st : wL_lawOf_153 post mc ms x0 x3 x4 (nI c) (nI d) (nI w) kc ks (nI c) (nI d) f2 a1 a2 a3 a4 a5 a6 := by
    unfold wL_lawOf_153
    exact pk_le w d (fun z => ip_169 hp K h0 hd (by congr 1; omega)) (fun z => ip_169 hp K h0 hd (by congr 1; omega))
  unfold wL_lawOf_141
  refine pk_eq c 0 (fun z => ?_) (fun z => ?_)
  · rw [K.2.1 z] at st
    exact st
  · have e := h0 (by omega)
    subst e
    exact st
/-- the call of estate -/
theorem ip_87 {post : Int32 → St0 → Prop} (hp : post 1 ()) {mc ms kc ks c w r : Nat} {x0 x2 x3 x4 z0 z1 f2 : Int32} {a1 a2 a3 a4 a5 a6 : Nat → Int32} (K : ip_K c w r a1 a2 a3) (h0 : c = 1 → x0 = nI w) (hz : z1 = z0) :
    wL_lawOf_87 post mc ms x0 x2 x3 x4 (nI c) z0 z1 kc ks (nI c) 0 f2 a1 a2 a3 a4 a5 a6 := by
  unfold wL_lawOf_87 wL_lawOf_107
  refine br_t hz ?_
  rcases ip_bg x2 1500 with h | h
  · refine ip_b1 1500 (by omega) h ?_
    unfold wL_lawOf_108
    have st : wL_lawOf_126 post mc ms x0 x2 x3 x4 (nI c) 0 (-1) (-1) kc ks (nI c) 0 f2 a1 a2 a3 a4 a5 a6 := br_t rfl (br_t rfl (ip_141 (d := 0) hp K h0 (by omega)))
    refine br_c (fun _ => br_t rfl st) (fun _ => br_c (fun _ => br_t rfl st) (fun _ => br_c (fun _ => br_t rfl st) (fun u => br_c (fun v => ?_) (fun _ => br_t rfl st))))
    rw [Int32.zero_add] at u v
    rcases h with h | ⟨i, hi, g, e⟩
    · exact absurd h u
    · subst e
      exact absurd v (nI_ge g hi)
  · refine ip_g1 1500 (by omega) h ?_
    obtain ⟨d, hd, e⟩ := h
    subst e
    unfold wL_lawOf_108
    refine br_f (fun h => nI_pos (n := d) (by omega) (Int32.lt_trans h (by decide))) (br_f (nI_nlt (a := 1500) hd (by omega)) (br_f (by rw [Int32.zero_add]; exact nI_pos (by omega)) (br_t (by rw [Int32.zero_add]; exact nI_le (b := 1500) hd (by omega)) (nm_r (Int32.zero_add _) ?_))))
    exact br_f (by decide) (br_t rfl (br_f (by decide) (ip_141 hp K h0 hd)))
/-- the whole law -/
theorem ip_law {post : Int32 → St0 → Prop} (hp : post 1 ()) (x0 x1 x2 x3 x4 : Int32) : wpL_lawOf post 40 640 () x0 x1 x2 x3 x4 := by
  have K0 : ip_K 0 0 0 (fun _ => 0) (fun _ => 0) (fun _ => 0) := ⟨by omega, fun _ => rfl, by omega, by omega, rfl, rfl, fun _ _ => rfl⟩
  unfold wpL_lawOf
  refine ⟨by omega, by omega, 6, 44, by omega, by omega, ?_⟩
  unfold wpX_init
  refine ⟨by omega, by omega, by omega, by omega, by omega, by omega, by omega, by omega, by omega, by omega, by omega, by omega, ?_⟩
  dsimp only
  rcases ip_bg x0 150 with h | h
  · have st : ∀ x7 : Int32, wL_lawOf_58 post 40 640 x0 x1 x2 x3 x4 0 x7 0 (1 + 6) (9 + 44) 0 0 0 (fun _ => 0) (fun _ => 0) (fun _ => 0) (fun _ => 0) (fun _ => 0) (fun _ => 0) := by
      intro x7
      unfold wL_lawOf_58 wpX_add
      exact ip_b2 150 (by omega) h (br_t rfl (ip_87 (c := 0) hp K0 (fun z => absurd z (by omega)) rfl))
    refine ip_b1 150 (by omega) h ?_
    unfold wL_lawOf_24 wL_lawOf_25 wL_lawOf_40 wL_lawOf_41 wL_lawOf_57
    exact br_c (fun _ => br_t rfl (st _)) (fun _ => br_c (fun _ => br_t rfl (st _)) (fun _ => br_t rfl (st _)))
  · refine ip_g1 150 (by omega) h ?_
    unfold wL_lawOf_25 wL_lawOf_40 wL_lawOf_41 wL_lawOf_57
    rcases ip_bg x1 3 with g | g
    · refine ip_b1 3 (by omega) g (br_f (by decide) (br_t rfl ?_))
      unfold wL_lawOf_58 wpX_add
      refine ip_g2 150 (by omega) h ?_
      unfold wpX_isRank
      exact ip_b3 3 (by omega) g (br_t rfl (br_f (by decide) (br_t rfl (ip_87 (c := 0) hp K0 (fun z => absurd z (by omega)) rfl))))
    · refine ip_g1 3 (by omega) g (br_f (by decide) (br_f (by decide) ?_))
      unfold wL_lawOf_58 wpX_add
      refine ip_g2 150 (by omega) h ?_
      unfold wpX_isRank
      obtain ⟨w, hw, e⟩ := h
      refine ip_g3 3 (by omega) g (br_f (by decide) (br_f (by decide) ⟨pk_in 0 8 (by omega), nm_e ⟨pk_in 0 8 (by omega), nm_e (nm_r (nI_1 0) (br_f (by decide) (br_f (by decide) ?_)))⟩⟩))
      obtain ⟨r, hr, e'⟩ := g
      subst e e'
      have K1 : ip_K 1 w r (upd (fun _ => 0) (0 : Int32).toNatClampNeg (nI w)) (upd (fun _ => 0) (0 : Int32).toNatClampNeg (nI r)) (fun _ => 0) := ⟨by omega, fun z => absurd z (by omega), hw, by omega, pk_us, pk_us, fun _ _ => rfl⟩
      exact ip_87 (c := 1) hp K1 (fun _ => rfl) rfl
theorem ip_cell {post : Int32 → Prop} {L : Nat} {xs : Nat → Int32} (hL : L ≤ 5) (k : Nat) (hk : k < 5) (H : ∀ x, post x) : wpL_cellAt post L xs () (nI k) := by
  unfold wpL_cellAt
  exact pk_le L k (fun _ => H _) (fun z => ⟨pk_in k L z, H _⟩)
end
section
theorem i_vc (xs : Nat → Int32) (L : Nat) (hL : L ≤ 5) : wpL_law (fun r => r = 1) L xs := by
  unfold wpL_law
  exact ip_cell hL 0 (by omega) (fun x0 => ip_cell hL 1 (by omega) (fun x1 => ip_cell hL 2 (by omega) (fun x2 => ip_cell hL 3 (by omega) (fun x3 => ip_cell hL 4 (by omega) (fun x4 =>
    ⟨40, 640, by omega, by omega, ip_law rfl x0 x1 x2 x3 x4⟩)))))
end
