section
/-- two different places of the class, as naturals below 6 -/
def pr_P (a b : Int32) : Prop := ∃ i j : Nat, i < 6 ∧ j < 6 ∧ i ≠ j ∧ a = nI i ∧ b = nI j
theorem pr_no {a : Int32} (h : a < 0 ∨ nI 6 ≤ a) : ¬ ∃ i : Nat, i < 6 ∧ a = nI i := by
  rintro ⟨i, hi, rfl⟩
  rcases h with h | h
  · exact nI_pos (by omega) h
  · exact nI_ge hi (by omega) h
theorem pr_ix {a b : Int32} {i j : Nat} (ea : a = nI i) (eb : b = nI j) : a * 6 + b = nI (i * 6 + j) := by
  subst ea eb
  show nI i * nI 6 + nI j = nI (i * 6 + j)
  rw [pk_mul, nI_add]
theorem pr_b : ∀ i, i < 21 → (nI i).toInt8.toInt32 = nI i := by decide
section
variable {f0 f1 f2 f3 f4 : Int32} {a1 a2 a3 a4 a5 a6 a7 a8 a9 : Nat → Int32}
theorem pr_place {post : Int32 → Prop} {u : St0} {a : Int32} (h0 : (¬ ∃ i : Nat, i < 6 ∧ a = nI i) → post 0) (h1 : (∃ i : Nat, i < 6 ∧ a = nI i) → post 1) : wpX_isPlace post u a := by
  unfold wpX_isPlace
  by_cases h : a < 0
  · exact br_t h (h0 (pr_no (Or.inl h)))
  · by_cases h6 : (6 : Int32) ≤ a
    · exact br_f h (br_t h6 (h0 (pr_no (Or.inr h6))))
    · refine br_f h (br_f h6 (h1 ?_))
      rcases pk_ix a (n := 6) (by omega) with z | z | z
      · exact absurd z h
      · exact absurd z h6
      · exact z
theorem pr_pair {post : Int32 → Prop} {u : St0} {a b : Int32} (h1 : pr_P a b → post 1) (h0 : ¬ pr_P a b → post 0) : wpX_isPair post u a b := by
  unfold wpX_isPair
  refine pr_place (fun n => br_t rfl (h0 ?_)) (fun ha => br_f (by decide) (pr_place (fun n => br_t rfl (h0 ?_)) (fun hb => br_f (by decide) (br_c (fun e => h0 ?_) (fun e => h1 ?_)))))
  · rintro ⟨i, j, hi, hj, hij, ea, eb⟩
    exact n ⟨i, hi, ea⟩
  · rintro ⟨i, j, hi, hj, hij, ea, eb⟩
    exact n ⟨j, hj, eb⟩
  · rintro ⟨i, j, hi, hj, hij, ea, eb⟩
    rw [ea, eb, nI_eq (by omega) (by omega)] at e
    exact hij e
  · obtain ⟨i, hi, ea⟩ := ha
    obtain ⟨j, hj, eb⟩ := hb
    exact ⟨i, j, hi, hj, fun z => e (by rw [ea, eb, z]), ea, eb⟩
/-- no road at all: road answers -1, close answers 0 and changes nothing -/
theorem pr_road0 {post : Int32 → Prop} {a b : Int32} (hz : ∀ k, k < 36 → a1 k = 0) (h : post (-1)) : wpX_road post (f0, f1, f2, f3, f4, a1, a2, a3, a4, a5, a6, a7, a8, a9) a b := by
  unfold wpX_road
  dsimp only
  refine pr_pair (fun hp => br_f (by decide) ?_) (fun _ => br_t rfl h)
  obtain ⟨i, j, hi, hj, hij, ea, eb⟩ := hp
  refine ⟨pk_in (i * 6 + j) 36 (by omega) (pr_ix ea eb), br_t ?_ h⟩
  rw [pk_cl (i * 6 + j) (pr_ix ea eb), hz _ (by omega)]
  decide
theorem pr_close0 {post : Int32 → St2 → Prop} {a b : Int32} (hz : ∀ k, k < 36 → a1 k = 0) (h : post 0 (f0, f1, f2, f3, f4, a1, a2, a3, a4, a5, a6, a7, a8, a9)) : wpX_close post (f0, f1, f2, f3, f4, a1, a2, a3, a4, a5, a6, a7, a8, a9) a b := by
  unfold wpX_close
  dsimp only
  exact pr_road0 hz (br_f (by decide) h)
/-- measure without roads: only the distances change -/
theorem pr_m52 {post : St2 → Prop} {J33 J42 : Int32 → (Nat → Int32) → (Nat → Int32) → (Nat → Int32) → (Nat → Int32) → (Nat → Int32) → (Nat → Int32) → (Nat → Int32) → (Nat → Int32) → (Nat → Int32) → Prop} {x2 x3 : Int32} {i : Nat} (hi : i < 6) (hz : ∀ k, k < 36 → a1 k = 0)
    (H : J42 (nI (i + 1)) a1 a2 a3 a4 a5 a6 a7 a8 a9) : ∃ n, wX_measure_52 post J33 J42 x2 x3 (nI i) f0 f1 f2 f3 f4 n 0 a1 a2 a3 a4 a5 a6 a7 a8 a9 :=
  pk_loop (σ := Unit) (fun n j _ => wX_measure_52 post J33 J42 x2 x3 (nI i) f0 f1 f2 f3 f4 n (nI j) a1 a2 a3 a4 a5 a6 a7 a8 a9) (fun _ _ => True) 6 0 () (by omega) trivial
    (fun n _ _ => pk_le 6 6 (fun _ => nm_r (nI_1 i) H) (fun z => absurd z (by omega)))
    (fun n j _ hj _ hw => pk_le 6 j (fun z => absurd z (by omega)) (fun _ => ⟨pk_in (i * 6 + j) 36 (by omega) (pr_ix rfl rfl), br_t (by rw [pk_cl (i * 6 + j) (pr_ix rfl rfl), hz _ (by omega)]; decide) (br_t rfl (nm_r (nI_1 j) (hw () trivial)))⟩))
theorem pr_m42 {post : St2 → Prop} {J33 : Int32 → (Nat → Int32) → (Nat → Int32) → (Nat → Int32) → (Nat → Int32) → (Nat → Int32) → (Nat → Int32) → (Nat → Int32) → (Nat → Int32) → (Nat → Int32) → Prop} {x2 : Int32} {k : Nat} (hz : ∀ k, k < 36 → a1 k = 0)
    (H : J33 (nI (k + 1)) a1 a2 a3 a4 a5 a6 a7 a8 a9) : ∃ n, wX_measure_42 post J33 x2 (nI k) f0 f1 f2 f3 f4 n 0 a1 a2 a3 a4 a5 a6 a7 a8 a9 :=
  pk_loop (σ := Unit) (fun n j _ => wX_measure_42 post J33 x2 (nI k) f0 f1 f2 f3 f4 n (nI j) a1 a2 a3 a4 a5 a6 a7 a8 a9) (fun _ _ => True) 6 0 () (by omega) trivial
    (fun n _ _ => pk_le 6 6 (fun _ => nm_r (nI_1 k) H) (fun z => absurd z (by omega)))
    (fun n j _ hj _ hw => pk_le 6 j (fun z => absurd z (by omega)) (fun _ => pr_m52 hj hz (hw () trivial)))
theorem pr_m33 {post : St2 → Prop} {x2 : Int32} (hz : ∀ k, k < 36 → a1 k = 0)
    (H : post (f0, f1, f2, f3, f4, a1, a2, a3, a4, a5, a6, a7, a8, a9)) : ∃ n, wX_measure_33 post x2 f0 f1 f2 f3 f4 n 0 a1 a2 a3 a4 a5 a6 a7 a8 a9 :=
  pk_loop (σ := Unit) (fun n j _ => wX_measure_33 post x2 f0 f1 f2 f3 f4 n (nI j) a1 a2 a3 a4 a5 a6 a7 a8 a9) (fun _ _ => True) 6 0 () (by omega) trivial
    (fun n _ _ => pk_le 6 6 (fun _ => H) (fun z => absurd z (by omega)))
    (fun n j _ hj _ hw => pk_le 6 j (fun z => absurd z (by omega)) (fun _ => pr_m42 hz (hw () trivial)))
theorem pr_m2 {post : St2 → Prop} {x1 x2 : Int32} (hz : ∀ k, k < 36 → a1 k = 0)
    (H : ∀ d, post (f0, f1, f2, f3, f4, a1, a2, a3, a4, a5, a6, a7, a8, d)) : ∃ n, wX_measure_2 post x1 x2 f0 f1 f2 f3 f4 n 0 a1 a2 a3 a4 a5 a6 a7 a8 a9 :=
  pk_loop (fun n j s => wX_measure_2 post x1 x2 f0 f1 f2 f3 f4 n (nI j) a1 a2 a3 a4 a5 a6 a7 a8 s) (fun _ _ => True) 6 0 a9 (by omega) trivial
    (fun n s _ => pk_le 6 6 (fun _ => pr_m33 hz (H s)) (fun z => absurd z (by omega)))
    (fun n j s hj _ hw => pk_le 6 j (fun z => absurd z (by omega)) (fun _ => br_c (fun _ => ⟨pk_in j 6 hj, nm_e (nm_r (nI_1 j) (hw _ trivial))⟩) (fun _ => ⟨pk_in j 6 hj, nm_e (nm_r (nI_1 j) (hw _ trivial))⟩)))
theorem pr_measure {post : St2 → Prop} {p0 p1 : Int32} (hz : ∀ k, k < 36 → a1 k = 0)
    (H : ∀ d, post (f0, f1, f2, f3, f4, a1, a2, a3, a4, a5, a6, a7, a8, d)) : wpX_measure post (f0, f1, f2, f3, f4, a1, a2, a3, a4, a5, a6, a7, a8, a9) p0 p1 := by
  unfold wpX_measure
  dsimp only
  exact pr_m2 hz H
/-- bestNext without roads: none -/
theorem pr_next {post : Int32 → Prop} {p1 : Int32} {i : Nat} (hi : i < 6) (hz : ∀ k, k < 36 → a1 k = 0) (h : post (-1)) : wpX_bestNext post (f0, f1, f2, f3, f4, a1, a2, a3, a4, a5, a6, a7, a8, a9) (nI i) p1 := by
  unfold wpX_bestNext
  dsimp only
  exact pk_loop (σ := Unit) (fun n j _ => wX_bestNext_9 post (nI i) p1 f0 f1 f2 f3 f4 a1 a2 a3 a4 a5 a6 a7 a8 a9 n (-1) 1048576 (nI j)) (fun _ _ => True) 6 0 () (by omega) trivial
    (fun n _ _ => pk_le 6 6 (fun _ => h) (fun z => absurd z (by omega)))
    (fun n j _ hj _ hw => pk_le 6 j (fun z => absurd z (by omega)) (fun _ => ⟨pk_in (i * 6 + j) 36 (by omega) (pr_ix rfl rfl), br_t (by rw [pk_cl (i * 6 + j) (pr_ix rfl rfl), hz _ (by omega)]; decide) (br_t rfl (nm_r (nI_1 j) (hw () trivial)))⟩))
/-- the first candidate without roads: none is added -/
theorem pr_add {post : St2 → Prop} {i : Nat} (hi : i < 6) (hz : ∀ k, k < 36 → a1 k = 0) (h2 : a2 0 = nI i)
    (H : ∀ d, post (f0, f1, f2, f3, f4, a1, a2, a3, a4, a5, a6, a7, a8, d)) : wpX_addCandidate post (f0, f1, f2, f3, f4, a1, a2, a3, a4, a5, a6, a7, a8, a9) 0 0 0 := by
  unfold wpX_addCandidate
  dsimp only
  have e0 : ((0 : Int32) * 6 + 0).toNatClampNeg = 0 := by decide
  have h2' : a2 ((0 : Int32) * 6 + 0).toNatClampNeg = nI i := by rw [e0]; exact h2
  refine ⟨0 + 1 + 1, ?_⟩
  refine br_f (by decide) ⟨pk_in 0 396 (by omega), nm_e (nm_e ?_)⟩
  refine br_t (by decide) ⟨pk_in 0 396 (by omega), nm_r h2' ?_⟩
  refine pr_measure hz (fun d => ?_)
  exact pr_next hi hz (br_t (by decide) (H d))
theorem pr_r77 {post : Int32 → St2 → Prop} (h : post 1 (f0, f1, f2, 0, f4, a1, a2, a3, a4, a5, a6, a7, a8, a9)) : ∃ n, wX_rank_77 post n 0 f0 f1 f2 0 f4 a1 a2 a3 a4 a5 a6 a7 a8 a9 :=
  ⟨0 + 1, br_f (by decide) ⟨0 + 1, br_t (by decide) (br_f (by decide) h)⟩⟩
/-- rank over no roads: every pair of places becomes known, with no way -/
theorem pr_rank {post : Int32 → St2 → Prop} {s t : Int32} (hz : ∀ k, k < 36 → a1 k = 0)
    (H0 : ¬ pr_P s t → post 0 (0, f1, f2, f3, f4, a1, a2, a3, a4, a5, a6, a7, a8, a9))
    (H1 : ∀ c d, post 1 (1, s, t, 0, 0, a1, c, a3, a4, a5, a6, a7, a8, d)) : wpX_rank post (0, f1, f2, f3, f4, a1, a2, a3, a4, a5, a6, a7, a8, a9) s t := by
  unfold wpX_rank
  dsimp only
  refine pr_pair (fun hp => br_f (by decide) (br_t rfl ?_)) (fun hp => br_t rfl (H0 hp))
  obtain ⟨i, j, hi, hj, hij, ea, eb⟩ := hp
  unfold wX_rank_35
  refine nm_e ?_
  refine pr_add hi hz ?_ (fun d => pr_r77 (H1 _ d))
  rw [pk_us, ea]
  exact pr_b i (by omega)
theorem pr_ways {post : Int32 → St2 → Prop} {s t : Int32} (hz : ∀ k, k < 36 → a1 k = 0)
    (H0 : ¬ pr_P s t → post 0 (0, f1, f2, f3, f4, a1, a2, a3, a4, a5, a6, a7, a8, a9))
    (H1 : ∀ c d, post 0 (1, s, t, 0, 0, a1, c, a3, a4, a5, a6, a7, a8, d)) : wpX_ways post (0, f1, f2, f3, f4, a1, a2, a3, a4, a5, a6, a7, a8, a9) s t := by
  unfold wpX_ways
  dsimp only
  exact pr_rank hz (fun hn => br_t rfl (H0 hn)) (fun c d => br_f (by decide) (H1 c d))
theorem pr_len0 {post : Int32 → St2 → Prop} {s t k : Int32} (hn : ¬ pr_P s t) (h : post (-1) (f0, f1, f2, f3, f4, a1, a2, a3, a4, a5, a6, a7, a8, a9)) : wpX_length post (f0, f1, f2, f3, f4, a1, a2, a3, a4, a5, a6, a7, a8, a9) s t k := by
  unfold wpX_length wpX_wayAt wpX_rank
  dsimp only
  exact pr_pair (fun hp => absurd hp hn) (fun _ => br_t rfl (br_t rfl (br_f (by decide) h)))
theorem pr_len1 {post : Int32 → St2 → Prop} {s t k : Int32} (h : post (-1) (1, s, t, f3, 0, a1, a2, a3, a4, a5, a6, a7, a8, a9)) : wpX_length post (1, s, t, f3, 0, a1, a2, a3, a4, a5, a6, a7, a8, a9) s t k := by
  unfold wpX_length wpX_wayAt wpX_rank
  dsimp only
  refine pr_pair (fun _ => br_f (by decide) (br_f (by decide) (br_t rfl (br_t rfl (br_f (by decide) ?_))))) (fun _ => br_t rfl (br_t rfl (br_f (by decide) h)))
  exact br_c (fun _ => br_f (by decide) h) (fun z => br_t (Int32.not_lt.mp z) (br_f (by decide) h))
end
end
section
/-- what the law calls fits -/
def pr_F (a b l : Int32) : Prop := pr_P a b ∧ ¬ l < 1 ∧ ¬ 20 < l
section
variable {f0 f1 f2 f3 f4 : Int32} {a1 a2 a3 a4 a5 a6 a7 a8 a9 : Nat → Int32}
theorem pr_roads0 {post : Int32 → Prop} (hz : ∀ k, k < 36 → a1 k = 0) (h : post 0) : wpX_roads post (f0, f1, f2, f3, f4, a1, a2, a3, a4, a5, a6, a7, a8, a9) := by
  unfold wpX_roads
  dsimp only
  exact pk_loop (σ := Unit) (fun n j _ => wX_roads_4 post f0 f1 f2 f3 f4 a1 a2 a3 a4 a5 a6 a7 a8 a9 n 0 (nI j)) (fun _ _ => True) 36 0 () (by omega) trivial
    (fun n _ _ => pk_le 36 36 (fun _ => h) (fun z => absurd z (by omega)))
    (fun n j _ hj _ hw => pk_le 36 j (fun z => absurd z (by omega)) (fun _ => ⟨pk_in j 36 hj, br_t (by rw [nI_clamp (by omega), hz _ hj]; decide) (nm_r (e' := 0) (by decide) (nm_r (nI_1 j) (hw () trivial)))⟩))
theorem pr_roads1 {post : Int32 → Prop} {q : Nat} (hq : q < 36) (hp : ¬ a1 q ≤ 0) (hz : ∀ k, k < 36 → k ≠ q → a1 k = 0) (h : post 1) : wpX_roads post (f0, f1, f2, f3, f4, a1, a2, a3, a4, a5, a6, a7, a8, a9) := by
  unfold wpX_roads
  dsimp only
  refine pk_loop (fun n j s => wX_roads_4 post f0 f1 f2 f3 f4 a1 a2 a3 a4 a5 a6 a7 a8 a9 n s (nI j)) (fun j s => (j ≤ q → s = 0) ∧ (q < j → s = 1)) 36 0 0 (by omega) ⟨fun _ => rfl, fun z => absurd z (by omega)⟩
    (fun n s hs => pk_le 36 36 (fun _ => by rw [hs.2 hq]; exact h) (fun z => absurd z (by omega)))
    (fun n j s hj hs hw => pk_le 36 j (fun z => absurd z (by omega)) (fun _ => ⟨pk_in j 36 hj, ?_⟩))
  rw [nI_clamp (by omega)]
  by_cases e : j = q
  · refine br_f (by rw [e]; exact hp) (nm_r (e' := 1) ?_ (nm_r (nI_1 j) (hw 1 ⟨fun z => absurd z (by omega), fun _ => rfl⟩)))
    rw [hs.1 (by omega)]
    decide
  · refine br_t (by rw [hz j hj e]; decide) (nm_r (e' := s) (Int32.add_zero s) (nm_r (nI_1 j) (hw s ⟨fun z => hs.1 (by omega), fun z => hs.2 (by omega)⟩)))
theorem pr_no121 {post : Int32 → St0 → Prop} {mc ms kc ks : Nat} {a b l : Int32} (hz : ∀ k, k < 36 → a1 k = 0) (hF : ¬ pr_F a b l) (h : post 1 ()) :
    wL_lawOf_121 post mc ms a b l 0 (-1) 0 kc ks f0 f1 f2 f3 f4 a1 a2 a3 a4 a5 a6 a7 a8 a9 := by
  unfold wL_lawOf_121 wpX_build
  dsimp only
  have K : ((0 : Int32) = 0 → wpX_road (fun r => ((r = (-1) → wpX_roads (fun r2 => ((r2 = 0 → post 1 ()) ∧ (¬ r2 = 0 → post 0 ()))) (f0, f1, f2, f3, f4, a1, a2, a3, a4, a5, a6, a7, a8, a9)) ∧ (¬ r = (-1) → post 0 ()))) (f0, f1, f2, f3, f4, a1, a2, a3, a4, a5, a6, a7, a8, a9) a b) ∧ (¬ (0 : Int32) = 0 → post 0 ()) :=
    br_t rfl (pr_road0 hz (br_t rfl (pr_roads0 hz (br_t rfl h))))
  refine pr_pair (fun hp => br_f (by decide) ?_) (fun _ => br_t rfl K)
  exact br_c (fun _ => K) (fun z1 => br_f (fun z2 => hF ⟨hp, z1, Int32.not_lt.mpr z2⟩) K)
theorem pr_yes121 {post : Int32 → St0 → Prop} {mc ms kc ks : Nat} {a b l : Int32} (hz : ∀ k, k < 36 → a1 k = 0) (hF : pr_F a b l) (h : post 1 ()) :
    wL_lawOf_121 post mc ms a b l 1 l 1 kc ks f0 f1 f2 f3 f4 a1 a2 a3 a4 a5 a6 a7 a8 a9 := by
  obtain ⟨hp, h1, h20⟩ := hF
  have hp' := hp
  obtain ⟨i, j, hi, hj, hij, ea, eb⟩ := hp'
  have l0 : ¬ l < 0 := by
    intro z
    exact h1 (Int32.lt_trans z (by decide))
  obtain ⟨q, hq, el⟩ := nI_of2 (n := 20) (M := 20) (by decide) l0 (Int32.not_lt.mp h20)
  have el8 : l.toInt8.toInt32 = l := by rw [el]; exact pr_b q (by omega)
  have lp : ¬ l ≤ 0 := by
    intro z
    exact h1 (Int32.lt_of_le_of_lt z (by decide))
  have ex : a * 6 + b = nI (i * 6 + j) := pr_ix ea eb
  have ec : (a * 6 + b).toNatClampNeg = i * 6 + j := pk_cl (i * 6 + j) ex
  have hin : vp_in (a * 6 + b) 36 := pk_in (i * 6 + j) 36 (by omega) ex
  unfold wL_lawOf_121 wpX_build
  dsimp only
  rw [ec, el8]
  refine pr_pair (fun _ => br_f (by decide) (br_f h1 (br_t (Int32.not_lt.mp h20) ⟨hin, nm_e (br_t rfl ?_)⟩))) (fun hn => absurd hp hn)
  unfold wpX_road
  dsimp only
  rw [ec]
  refine pr_pair (fun _ => br_f (by decide) ⟨hin, br_f (by rw [pk_us]; exact lp) ⟨hin, br_t pk_us ?_⟩⟩) (fun hn => absurd hp hn)
  exact pr_roads1 (q := i * 6 + j) (by omega) (by rw [pk_us]; exact lp) (fun k hk hne => by rw [pk_un hne]; exact hz k hk) (br_t rfl h)
theorem pr_tail {post : Int32 → St0 → Prop} {mc ms kc ks : Nat} {a b l z : Int32} (hz : ∀ k, k < 36 → a1 k = 0) (hF : (z = 0 ∧ ¬ pr_F a b l) ∨ (z = 1 ∧ pr_F a b l)) (h : post 1 ()) :
    (z = 0 → wL_lawOf_109 post mc ms a b l z (-1) kc ks f0 f1 f2 f3 f4 a1 a2 a3 a4 a5 a6 a7 a8 a9) ∧ (¬ z = 0 → wL_lawOf_109 post mc ms a b l z l kc ks f0 f1 f2 f3 f4 a1 a2 a3 a4 a5 a6 a7 a8 a9) := by
  rcases hF with ⟨rfl, hn⟩ | ⟨rfl, hy⟩
  · exact br_t rfl (br_t rfl (pr_no121 hz hn h))
  · exact br_f (by decide) (br_f (by decide) (pr_yes121 hz hy h))
theorem pr_60 {post : Int32 → St0 → Prop} {mc ms kc ks : Nat} {a b l s t k z : Int32} (hz : ∀ k, k < 36 → a1 k = 0) (hF : (z = 0 ∧ ¬ pr_F a b l) ∨ (z = 1 ∧ pr_F a b l)) (h : post 1 ()) :
    wL_lawOf_60 post mc ms a b l s t k z kc ks 0 f1 f2 f3 f4 a1 a2 a3 a4 a5 a6 a7 a8 a9 := by
  unfold wL_lawOf_60
  refine pr_close0 hz (br_t rfl ?_)
  exact pr_ways hz (fun hn => br_t rfl (pr_len0 hn (br_t rfl (pr_tail hz hF h)))) (fun c d => br_t rfl (pr_len1 (br_t rfl (pr_tail hz hF h))))
theorem pr_36 {post : Int32 → St0 → Prop} {mc ms kc ks : Nat} {a b l s t k : Int32} (hz : ∀ k, k < 36 → a1 k = 0) (hP : ¬ pr_P a b) (h : post 1 ()) :
    wL_lawOf_36 post mc ms a b l s t k kc ks 0 f1 f2 f3 f4 a1 a2 a3 a4 a5 a6 a7 a8 a9 := by
  unfold wL_lawOf_36 wL_lawOf_37
  refine br_t rfl ?_
  unfold wL_lawOf_59
  exact pr_60 hz (Or.inl ⟨rfl, fun hF => hP hF.1⟩) h
theorem pr_37 {post : Int32 → St0 → Prop} {mc ms kc ks : Nat} {a b l s t k : Int32} (hz : ∀ k, k < 36 → a1 k = 0) (hP : pr_P a b) (h : post 1 ()) :
    wL_lawOf_37 post mc ms a b l s t k 1 kc ks 0 f1 f2 f3 f4 a1 a2 a3 a4 a5 a6 a7 a8 a9 := by
  unfold wL_lawOf_37 wL_lawOf_59
  exact br_f (by decide) (br_c (fun z => pr_60 hz (Or.inl ⟨rfl, fun hF => hF.2.1 z⟩) h) (fun z1 => br_c (fun z => pr_60 hz (Or.inl ⟨rfl, fun hF => hF.2.2 z⟩) h) (fun z2 => pr_60 hz (Or.inr ⟨rfl, hP, z1, z2⟩) h)))
end
theorem pr_out {a b : Int32} (h : a < 0 ∨ 5 < a ∨ b < 0 ∨ 5 < b ∨ a = b) : ¬ pr_P a b := by
  rintro ⟨i, j, hi, hj, hij, rfl, rfl⟩
  rcases h with h | h | h | h | h
  · exact nI_pos (by omega) h
  · exact nI_nlt (a := 5) (b := i) (by omega) (by omega) h
  · exact nI_pos (by omega) h
  · exact nI_nlt (a := 5) (b := j) (by omega) (by omega) h
  · rw [nI_eq (by omega) (by omega)] at h
    exact hij h
theorem pr_of {a b : Int32} (h1 : ¬ a < 0) (h2 : ¬ 5 < a) (h3 : ¬ b < 0) (h4 : ¬ 5 < b) (h5 : ¬ a = b) : pr_P a b := by
  obtain ⟨i, hi, ea⟩ := nI_of2 (n := 5) (M := 5) (by decide) h1 (Int32.not_lt.mp h2)
  obtain ⟨j, hj, eb⟩ := nI_of2 (n := 5) (M := 5) (by decide) h3 (Int32.not_lt.mp h4)
  exact ⟨i, j, by omega, by omega, fun e => h5 (by rw [ea, eb, e]), ea, eb⟩
theorem pr_lawOf {post : Int32 → St0 → Prop} {a b l s t k : Int32} (h : post 1 ()) : wpL_lawOf post 10 848 () a b l s t k := by
  unfold wpL_lawOf
  refine ⟨by omega, by omega, 9, 834, by omega, by omega, ?_⟩
  unfold wpX_init
  dsimp only
  refine ⟨by omega, by omega, by omega, by omega, by omega, by omega, by omega, by omega, by omega, by omega, by omega, by omega, by omega, by omega, by omega, by omega, by omega, by omega, ?_⟩
  have hz : ∀ k, k < 36 → (fun _ => 0 : Nat → Int32) k = 0 := fun _ _ => rfl
  refine br_c (fun z => pr_36 hz (pr_out (Or.inl z)) h) (fun n1 => ?_)
  refine br_c (fun z => pr_36 hz (pr_out (Or.inr (Or.inl z))) h) (fun n2 => ?_)
  refine br_c (fun z => pr_36 hz (pr_out (Or.inr (Or.inr (Or.inl z)))) h) (fun n3 => ?_)
  refine br_c (fun z => pr_36 hz (pr_out (Or.inr (Or.inr (Or.inr (Or.inl z))))) h) (fun n4 => ?_)
  exact br_c (fun z => pr_36 hz (pr_out (Or.inr (Or.inr (Or.inr (Or.inr z))))) h) (fun n5 => pr_37 hz (pr_of n1 n2 n3 n4 n5) h)
theorem pr_cell {post : Int32 → Prop} {L : Nat} {xs : Nat → Int32} {p : Int32} (c : Nat) (hL : L ≤ 6) (hc : c < 6) (h : ∀ v, post v) (hp : p = nI c := by rfl) : wpL_cellAt post L xs () p := by
  unfold wpL_cellAt
  exact pk_le L c (fun _ => h _) (fun z => ⟨pk_in c L z hp, h _⟩) rfl hp
theorem i_vc (xs : Nat → Int32) (L : Nat) (hL : L ≤ 6) : wpL_law (fun r => r = 1) L xs := by
  unfold wpL_law
  refine pr_cell 0 hL (by omega) (fun a => pr_cell 1 hL (by omega) (fun b => pr_cell 2 hL (by omega) (fun l => pr_cell 3 hL (by omega) (fun s => pr_cell 4 hL (by omega) (fun t => pr_cell 5 hL (by omega) (fun k => ?_))))))
  exact ⟨10, 848, by omega, by omega, pr_lawOf rfl⟩
end
