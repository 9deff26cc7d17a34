section
/-! part 01: numbers, bits of small sets, what a table of least prices is to hold -/
theorem tb_ix (t i : Nat) : 7 * nI t + nI i = nI (7 * t + i) := by
  rw [show (7 : Int32) = nI 7 from rfl, pk_mul, nI_add]
theorem tb_b1 : ∀ s, s < 128 → ∀ i, i < 7 → s.testBit i = true → ((nI s >>> (nI i &&& 31)) &&& 1) = 1 := by decide +kernel
theorem tb_b0 : ∀ s, s < 128 → ∀ i, i < 7 → s.testBit i = false → ((nI s >>> (nI i &&& 31)) &&& 1) = 0 := by decide +kernel
theorem tb_beh : ∀ s, s < 128 → ∀ i, i < 7 → s.testBit i = true → (7 * (nI s &&& (((1 : Int32) <<< (nI i &&& 31)) ^^^ (-1)))) + nI i = nI (7 * (s - 2 ^ i) + i) := by decide +kernel
theorem tb_one : ∀ n, n < 8 → (1 : Int32) <<< (nI n &&& 31) = nI (2 ^ n) := by decide +kernel
theorem tb_full : ∀ n, n < 8 → ∀ a, a < n → (7 * ((((1 : Int32) <<< (nI n &&& 31)) - 1) &&& (((1 : Int32) <<< (nI a &&& 31)) ^^^ (-1)))) + nI a = nI (7 * (2 ^ n - 1 - 2 ^ a) + a) := by decide +kernel
theorem tb_fA : ∀ n, n < 8 → ∀ a, a < n → (2 ^ n - 1 - 2 ^ a).testBit a = false := by decide +kernel
theorem tb_fB : ∀ n, n < 8 → ∀ a, a < n → ∀ b, b < n → (a = b ∨ (2 ^ n - 1 - 2 ^ a).testBit b = true) := by decide +kernel
theorem tb_fC : ∀ n, n < 8 → ∀ a, a < n → 2 ^ n - 1 - 2 ^ a < 2 ^ n := by decide +kernel
theorem tb_fullB (n : Nat) (hn : n < 8) (a : Nat) (ha : a < n) (b : Nat) (hb : b < n) (h : a ≠ b) : (2 ^ n - 1 - 2 ^ a).testBit a = false ∧ (2 ^ n - 1 - 2 ^ a).testBit b = true ∧ 2 ^ n - 1 - 2 ^ a < 2 ^ n :=
  ⟨tb_fA n hn a ha, (tb_fB n hn a ha b hb).resolve_left h, tb_fC n hn a ha⟩
theorem tb_less : ∀ s, s < 128 → ∀ i, i < 7 → s.testBit i = true → s - 2 ^ i < s ∧ (s - 2 ^ i).testBit i = false := by decide +kernel
theorem tb_pw : ∀ n, n < 8 → 2 ^ n ≤ 128 := by decide +kernel
theorem tb_pw1 : ∀ n, n < 8 → 1 ≤ 2 ^ n := by decide +kernel
theorem tb_pick0 : ∀ s, s < 128 → ∀ b, b < 7 → s.testBit b = true → ∃ j, j < 7 ∧ (s.testBit j = true ∧ ((s - 2 ^ j).testBit b = true ∨ (s - 2 ^ j = 0 ∧ j = b))) := by decide +kernel
theorem tb_in : ∀ n, n < 8 → ∀ s, s < 2 ^ n → ∀ i, i < 7 → s.testBit i = true → i < n := by decide +kernel

/-- a finite entry: at most c -/
def tb_fin (v : Int32) (c : Nat) : Prop := ∃ m, m ≤ c ∧ v = nI m
/-- an entry: finite, or FAR -/
def tb_ent (v : Int32) (c : Nat) : Prop := v = nI 1000000 ∨ tb_fin v c
/-- the pairs of a set and a town from which the way to b is open -/
def tb_good (b s t : Nat) : Prop := s.testBit t = false ∧ (s.testBit b = true ∨ (s = 0 ∧ t = b))
/-- the entry of set s and town t is as it must be -/
def tb_en (b : Nat) (l : Nat → Int32) (s t : Nat) : Prop := tb_ent (l (7 * s + t)) (40 * s) ∧ (tb_good b s t → tb_fin (l (7 * s + t)) (40 * s))
/-- prices: all of them 0 to 40 -/
def tb_P (a : Nat → Int32) : Prop := ∀ k, k < 49 → tb_fin (a k) 40
/-- marks: none -/
def tb_M (a : Nat → Int32) : Prop := ∀ k, k < 49 → a k = 0
/-- costs: 0 to 40 off the diagonal -/
def tb_C (a : Nat → Int32) : Prop := ∀ k, k < 49 → k / 7 ≠ k % 7 → tb_fin (a k) 40

theorem tb_finN {v : Int32} {c : Nat} (h : tb_fin v c) (hc : c < 1000000) : ¬ v = nI 1000000 := by
  obtain ⟨m, hm, rfl⟩ := h
  rw [nI_eq (by omega) (by omega)]
  omega
theorem tb_finLt {v : Int32} {c : Nat} (h : tb_fin v c) (hc : c < 1000000) : ¬ (1000000 : Int32) ≤ v := by
  obtain ⟨m, hm, rfl⟩ := h
  exact nI_ge (b := 1000000) (by omega) (by omega)
theorem tb_en_of {b : Nat} {l l' : Nat → Int32} {s t : Nat} (e : l' (7 * s + t) = l (7 * s + t)) (h : tb_en b l s t) : tb_en b l' s t := by
  unfold tb_en at *
  rw [e]
  exact h
theorem tb_pick {n b s t : Nat} (hn : n < 8) (hs : s < 2 ^ n) (h0 : 0 < s) (hb : b < n) (hg : tb_good b s t) : ∃ j, j < n ∧ s.testBit j = true ∧ tb_good b (s - 2 ^ j) j := by
  have hs' : s < 128 := Nat.lt_of_lt_of_le hs (tb_pw n hn)
  rcases hg.2 with h | h
  · obtain ⟨j, hj, hj2, hj3⟩ := tb_pick0 s hs' b (by omega) h
    exact ⟨j, tb_in n hn s hs j hj hj2, hj2, (tb_less s hs' j hj hj2).2, hj3⟩
  · omega
end
section
/-! part 02: fillEntry -/
section
variable {a1 a2 a3 a4 a5 a6 a7 a8 a9 a10 a11 : Nat → Int32} {rq : Int32}
theorem tb_125 {post : St2 → Prop} {J : Int32 → (Nat → Int32) → (Nat → Int32) → (Nat → Int32) → (Nat → Int32) → (Nat → Int32) → (Nat → Int32) → (Nat → Int32) → (Nat → Int32) → (Nat → Int32) → (Nat → Int32) → (Nat → Int32) → Prop} {x1 x2 x7 fn : Int32} {K q i : Nat} (hK : K < 896) (hq : q < 896)
    (H : ∀ w, J (nI (i + 1)) a1 a2 a3 a4 w a6 a7 a8 a9 a10 a11) :
    wX_fillEntry_125 post J x1 x2 (nI K) (nI i) (nI q) x7 fn rq a1 a2 a3 a4 a5 a6 a7 a8 a9 a10 a11 :=
  ⟨pk_in q 896 hq, br_c (fun _ => nm_r (nI_1 i) (H _)) (fun _ => ⟨pk_in K 896 hK, br_c (fun _ => ⟨pk_in K 896 hK, pk_in q 896 hq, pk_in K 896 hK, nm_e (nm_r (nI_1 i) (H _))⟩) (fun _ => nm_r (nI_1 i) (H _))⟩)⟩
/-- the invariant of fillEntry's loop: l against the table l0 at the start, K the entry that is filled -/
def tb_I (b s K : Nat) (l0 : Nat → Int32) (i : Nat) (l : Nat → Int32) : Prop :=
  (∀ k, k ≠ K → l k = l0 k) ∧ tb_ent (l K) (40 * s) ∧ (∀ j, j < i → s.testBit j = true → tb_good b (s - 2 ^ j) j → tb_fin (l K) (40 * s))
theorem tb_10 {post : St2 → Prop} {n b s t : Nat} (hn : n < 8) (hs : s < 2 ^ n) (ht : t < n) (hst : s.testBit t = false) (hC : tb_C a3)
    (hL : ∀ s', s' < s → ∀ t', t' < n → tb_en b a4 s' t') (h0 : a4 (7 * s + t) = nI 1000000)
    (H : ∀ l w, tb_I b s (7 * s + t) a4 n l → post (nI n, rq, a1, a2, a3, l, w, a6, a7, a8, a9, a10, a11)) :
    ∃ f, wX_fillEntry_10 post (nI s) (nI t) (nI (7 * s + t)) (nI n) rq f 0 a1 a2 a3 a4 a5 a6 a7 a8 a9 a10 a11 := by
  have hs' : s < 128 := Nat.lt_of_lt_of_le hs (tb_pw n hn)
  have hK : 7 * s + t < 896 := by omega
  refine pk_loop (fun f i (u : (Nat → Int32) × (Nat → Int32)) => wX_fillEntry_10 post (nI s) (nI t) (nI (7 * s + t)) (nI n) rq f (nI i) a1 a2 a3 u.1 u.2 a6 a7 a8 a9 a10 a11) (fun i u => tb_I b s (7 * s + t) a4 i u.1) n 0 (a4, a5) (by omega) ⟨fun _ _ => rfl, Or.inl h0, fun j hj => absurd hj (by omega)⟩ ?_ ?_
  · intro f u hI
    exact pk_le n n (fun _ => H u.1 u.2 hI) (fun z => absurd z (by omega))
  · intro f i u hi hI hw
    obtain ⟨l, w⟩ := u
    obtain ⟨h1, h2, h3⟩ := hI
    dsimp only at h1 h2 h3
    have hw' : ∀ l' w', tb_I b s (7 * s + t) a4 (i + 1) l' → wX_fillEntry_10 post (nI s) (nI t) (nI (7 * s + t)) (nI n) rq f (nI (i + 1)) a1 a2 a3 l' w' a6 a7 a8 a9 a10 a11 := fun l' w' h => hw (l', w') h
    show wX_fillEntry_10 post (nI s) (nI t) (nI (7 * s + t)) (nI n) rq (f + 1) (nI i) a1 a2 a3 l w a6 a7 a8 a9 a10 a11
    refine pk_le n i (fun z => absurd z (by omega)) (fun _ => ⟨pk_in (7 * t + i) 49 (by omega) (tb_ix t i), ?_⟩)
    refine nm_r (by rw [tb_ix, nI_clamp (by omega)]) ?_
    cases hb : s.testBit i with
    | false =>
      refine br_f (by rw [tb_b0 s hs' i (by omega) hb]; decide) (nm_r (nI_1 i) (hw' l w ⟨h1, h2, fun j hj hj2 => ?_⟩))
      by_cases e : j = i
      · rw [e, hb] at hj2
        exact absurd hj2 (by decide)
      · exact h3 j (by omega) hj2
    | true =>
      have hti : t ≠ i := fun e => by
        rw [e, hb] at hst
        exact absurd hst (by decide)
      have hc : tb_fin (a3 (7 * t + i)) 40 := hC (7 * t + i) (by omega) (by omega)
      obtain ⟨lt1, lt2⟩ := tb_less s hs' i (by omega) hb
      refine br_t (tb_b1 s hs' i (by omega) hb) (br_f (tb_finLt hc (by omega)) (nm_r (tb_beh s hs' i (by omega) hb) ?_))
      obtain ⟨m, hm, em⟩ := hc
      have hq : 7 * (s - 2 ^ i) + i < 896 := by omega
      have hE : tb_en b a4 (s - 2 ^ i) i := hL (s - 2 ^ i) lt1 i hi
      have hne : 7 * (s - 2 ^ i) + i ≠ 7 * s + t := by omega
      have hlq : l (7 * (s - 2 ^ i) + i) = a4 (7 * (s - 2 ^ i) + i) := h1 _ hne
      refine ⟨pk_in _ 896 hq, nm_r (by rw [nI_clamp (show 7 * (s - 2 ^ i) + i < 2 ^ 31 by omega)]) ⟨pk_in _ 896 hq, ?_⟩⟩
      rw [nI_clamp (show 7 * (s - 2 ^ i) + i < 2 ^ 31 by omega), nI_clamp (show 7 * s + t < 2 ^ 31 by omega), hlq]
      rcases hE.1 with hF | ⟨r, hr, er⟩
      · refine br_t (by rw [hF]; exact nI_le (a := 1000000) (b := 1000000) (by omega) (by omega)) (tb_125 hK hq (fun w' => hw' l w' ⟨h1, h2, fun j hj hj2 hj3 => ?_⟩))
        by_cases e : j = i
        · rw [e] at hj3
          exact absurd hF (tb_finN (hE.2 hj3) (by omega))
        · exact h3 j (by omega) hj2 hj3
      · refine br_f (tb_finLt ⟨r, hr, er⟩ (by omega)) ⟨pk_in _ 896 hK, ?_⟩
        have es : a3 (7 * t + i) + a4 (7 * (s - 2 ^ i) + i) = nI (m + r) := by rw [em, er, nI_add]
        rw [es]
        refine br_c (fun hle => tb_125 hK hq (fun w' => hw' l w' ⟨h1, h2, fun j hj hj2 hj3 => ?_⟩)) (fun hle => ⟨pk_in _ 896 hK, nm_e ⟨pk_in _ 896 hq, pk_in _ 896 hK, nm_e (nm_r (nI_1 i) (hw' _ _ ⟨fun k hk => ?_, ?_, fun j hj hj2 hj3 => ?_⟩))⟩⟩)
        · rcases h2 with g | g
          · rw [g] at hle
            exact absurd hle (nI_ge (by omega) (by omega))
          · exact g
        · rw [pk_un hk]
          exact h1 k hk
        · rw [pk_us]
          exact Or.inr ⟨m + r, by omega, rfl⟩
        · rw [pk_us]
          exact ⟨m + r, by omega, rfl⟩
theorem tb_fe {post : St2 → Prop} {n b s t : Nat} (hn : n < 8) (hs : s < 2 ^ n) (hs0 : 0 < s) (hb : b < n) (ht : t < n) (hst : s.testBit t = false) (hC : tb_C a3)
    (hL : ∀ s', s' < s → ∀ t', t' < n → tb_en b a4 s' t') (h0 : a4 (7 * s + t) = nI 1000000)
    (H : ∀ l w, (∀ k, k ≠ 7 * s + t → l k = a4 k) → tb_en b l s t → post (nI n, rq, a1, a2, a3, l, w, a6, a7, a8, a9, a10, a11)) :
    wpX_fillEntry post (nI n, rq, a1, a2, a3, a4, a5, a6, a7, a8, a9, a10, a11) (nI s) (nI t) := by
  unfold wpX_fillEntry
  refine nm_r (tb_ix s t) (tb_10 hn hs ht hst hC hL h0 (fun l w hI => H l w hI.1 ⟨hI.2.1, fun hg => ?_⟩))
  obtain ⟨j, hj, hj2, hj3⟩ := tb_pick hn hs hs0 hb hg
  exact hI.2.2 j hj hj2 hj3
end
end
section
/-! part 03: fillSets, takeCosts, pathPrice -/
section
variable {a1 a2 a3 a4 a5 a6 a7 a8 a9 a10 a11 : Nat → Int32} {rq : Int32}
theorem tb_up {l : Nat → Int32} {k k' : Nat} {x : Int32} (e : k = k') : upd l k x = upd l k' x := by rw [e]
theorem tb_14 {post : St2 → Prop} {J : Int32 → Int32 → Int32 → (Nat → Int32) → (Nat → Int32) → (Nat → Int32) → (Nat → Int32) → (Nat → Int32) → (Nat → Int32) → (Nat → Int32) → (Nat → Int32) → (Nat → Int32) → (Nat → Int32) → (Nat → Int32) → Prop} {n b s : Nat} (hn : n < 8) (hs : s < 2 ^ n) (hs0 : 0 < s) (hb : b < n) (hC : tb_C a3)
    (hL : ∀ s', s' < s → ∀ t', t' < n → tb_en b a4 s' t')
    (H : ∀ l w, (∀ s', s' < s + 1 → ∀ t', t' < n → tb_en b l s' t') → J (nI (s + 1)) (nI n) rq a1 a2 a3 l w a6 a7 a8 a9 a10 a11) :
    ∃ f, wX_fillSets_14 post J (nI s) f 0 (nI n) rq a1 a2 a3 a4 a5 a6 a7 a8 a9 a10 a11 := by
  have hs' : s < 128 := Nat.lt_of_lt_of_le hs (tb_pw n hn)
  refine pk_loop (fun f i (u : (Nat → Int32) × (Nat → Int32)) => wX_fillSets_14 post J (nI s) f (nI i) (nI n) rq a1 a2 a3 u.1 u.2 a6 a7 a8 a9 a10 a11) (fun i u => (∀ s', s' < s → ∀ t', t' < n → tb_en b u.1 s' t') ∧ (∀ t', t' < i → tb_en b u.1 s t')) n 0 (a4, a5) (by omega) ⟨hL, fun j hj => absurd hj (by omega)⟩ ?_ ?_
  · intro f u hI
    refine pk_le n n (fun _ => nm_r (nI_1 s) (H u.1 u.2 (fun s' h t' ht' => ?_))) (fun z => absurd z (by omega))
    by_cases e : s' = s
    · rw [e]
      exact hI.2 t' ht'
    · exact hI.1 s' (by omega) t' ht'
  · intro f t u hi hI hw
    obtain ⟨l, w⟩ := u
    obtain ⟨h1, h2⟩ := hI
    dsimp only at h1 h2
    have hw' : ∀ l' w', (∀ s', s' < s → ∀ t', t' < n → tb_en b l' s' t') → (∀ t', t' < t + 1 → tb_en b l' s t') → wX_fillSets_14 post J (nI s) f (nI (t + 1)) (nI n) rq a1 a2 a3 l' w' a6 a7 a8 a9 a10 a11 := fun l' w' g1 g2 => hw (l', w') ⟨g1, g2⟩
    have hK : 7 * s + t < 896 := by omega
    show wX_fillSets_14 post J (nI s) (f + 1) (nI t) (nI n) rq a1 a2 a3 l w a6 a7 a8 a9 a10 a11
    refine pk_le n t (fun z => absurd z (by omega)) (fun _ => nm_r (tb_ix s t) ⟨pk_in _ 896 hK, nm_r (tb_up (nI_clamp (show 7 * s + t < 2 ^ 31 by omega))) ⟨pk_in _ 896 hK, nm_e ?_⟩⟩)
    have g1 : ∀ s', s' < s → ∀ t', t' < n → tb_en b (upd l (7 * s + t) 1000000) s' t' := fun s' h t' ht' => tb_en_of (pk_un (by omega)) (h1 s' h t' ht')
    have g2 : ∀ t', t' < t → tb_en b (upd l (7 * s + t) 1000000) s t' := fun t' ht' => tb_en_of (pk_un (by omega)) (h2 t' ht')
    have g0 : upd l (7 * s + t) 1000000 (7 * s + t) = nI 1000000 := pk_us
    cases hst : s.testBit t with
    | false =>
      refine br_t (tb_b0 s hs' t (by omega) hst) (tb_fe hn hs hs0 hb hi hst hC g1 g0 (fun l' w' e1 e2 => nm_r (nI_1 t) (hw' l' w' (fun s' h t' ht' => tb_en_of (e1 _ (by omega)) (g1 s' h t' ht')) (fun t' ht' => ?_))))
      by_cases e : t' = t
      · rw [e]
        exact e2
      · exact tb_en_of (e1 _ (by omega)) (g2 t' (by omega))
    | true =>
      refine br_f (by rw [tb_b1 s hs' t (by omega) hst]; decide) (nm_r (nI_1 t) (hw' _ _ g1 (fun t' ht' => ?_)))
      by_cases e : t' = t
      · rw [e]
        refine ⟨Or.inl g0, fun hg => ?_⟩
        have hg1 : s.testBit t = false := hg.1
        rw [hst] at hg1
        exact absurd hg1 (by decide)
      · exact g2 t' (by omega)
theorem tb_fs {post : St2 → Prop} {n b : Nat} (hn : n < 8) (hb : b < n) (hC : tb_C a3)
    (hL : ∀ t', t' < n → tb_en b a4 0 t')
    (H : ∀ l w, (∀ s', s' < 2 ^ n → ∀ t', t' < n → tb_en b l s' t') → post (nI n, rq, a1, a2, a3, l, w, a6, a7, a8, a9, a10, a11)) :
    wpX_fillSets post (nI n, rq, a1, a2, a3, a4, a5, a6, a7, a8, a9, a10, a11) := by
  have hp := tb_pw n hn
  unfold wpX_fillSets
  refine pk_loop (fun f i (u : (Nat → Int32) × (Nat → Int32)) => wX_fillSets_2 post f (nI i) (nI n) rq a1 a2 a3 u.1 u.2 a6 a7 a8 a9 a10 a11) (fun i u => 0 < i ∧ ∀ s', s' < i → ∀ t', t' < n → tb_en b u.1 s' t') (2 ^ n) 1 (a4, a5) (tb_pw1 n hn) ⟨by omega, fun s' h t' ht' => ?_⟩ ?_ ?_
  · rw [show s' = 0 by omega]
    exact hL t' ht'
  · intro f u hI
    exact pk_le (2 ^ n) (2 ^ n) (fun _ => H u.1 u.2 hI.2) (fun z => absurd z (by omega)) (tb_one n hn)
  · intro f s u hi hI hw
    obtain ⟨l, w⟩ := u
    exact pk_le (2 ^ n) s (fun z => absurd z (by omega)) (fun _ => tb_14 hn hi hI.1 hb hC hI.2 (fun l' w' h => hw (l', w') ⟨by omega, h⟩)) (tb_one n hn)
theorem tb_tc {post : St2 → Prop} {fn : Int32} (hP : tb_P a1) (hM : tb_M a2)
    (H : ∀ c, tb_C c → post (fn, 0, a1, a2, c, a4, a5, a6, a7, a8, a9, a10, a11)) :
    wpX_takeCosts post (fn, rq, a1, a2, a3, a4, a5, a6, a7, a8, a9, a10, a11) 0 := by
  unfold wpX_takeCosts
  refine pk_loop (fun f i (c : Nat → Int32) => wX_takeCosts_7 post 0 fn f (nI i) 0 a1 a2 c a4 a5 a6 a7 a8 a9 a10 a11) (fun i c => ∀ k, k < i → k / 7 ≠ k % 7 → tb_fin (c k) 40) 49 0 a3 (by omega) (fun k hk => absurd hk (by omega)) ?_ ?_
  · intro f c hI
    exact pk_le 49 49 (fun _ => br_c (fun _ => br_t rfl (H c hI)) (fun _ => H c hI)) (fun z => absurd z (by omega))
  · intro f i c hi hI hw
    have hw' : ∀ c', (∀ k, k < i + 1 → k / 7 ≠ k % 7 → tb_fin (c' k) 40) → wX_takeCosts_7 post 0 fn f (nI (i + 1)) 0 a1 a2 c' a4 a5 a6 a7 a8 a9 a10 a11 := hw
    have hcl : (nI i).toNatClampNeg = i := nI_clamp (by omega)
    have e1 : upd c (nI i).toNatClampNeg (a1 (nI i).toNatClampNeg) = upd c i (a1 i) := by rw [hcl]
    show wX_takeCosts_7 post 0 fn (f + 1) (nI i) 0 a1 a2 c a4 a5 a6 a7 a8 a9 a10 a11
    refine pk_le 49 i (fun z => absurd z (by omega)) (fun _ => ⟨pk_in i 49 hi, pk_in i 49 hi, nm_r e1 ⟨by decide, by decide, ?_⟩⟩)
    refine pk_eq (i / 7) (i % 7) (fun e => ?_) (fun e => ⟨pk_in i 49 hi, ?_⟩) (pk_div (d := 7) (by omega) (by omega) (by omega)) (pk_rem (d := 7) (by omega) (by omega) (by omega))
    · refine ⟨pk_in i 49 hi, nm_r (tb_up hcl) (nm_r (nI_1 i) (hw' _ (fun k hk hk2 => ?_)))⟩
      by_cases ek : k = i
      · rw [ek] at hk2
        exact absurd e hk2
      · rw [pk_un ek, pk_un ek]
        exact hI k (by omega) hk2
    · refine br_f (by rw [hcl, hM i hi]; decide) (br_t rfl (nm_r (nI_1 i) (hw' _ (fun k hk hk2 => ?_))))
      by_cases ek : k = i
      · rw [ek, pk_us]
        exact hP i hi
      · rw [pk_un ek]
        exact hI k (by omega) hk2
theorem tb_29 {post : Int32 → St2 → Prop} {J : Int32 → (Nat → Int32) → (Nat → Int32) → (Nat → Int32) → (Nat → Int32) → (Nat → Int32) → (Nat → Int32) → (Nat → Int32) → (Nat → Int32) → (Nat → Int32) → (Nat → Int32) → (Nat → Int32) → Prop} {x1 x2 z0 fn : Int32} {i : Nat} (hi : i < 7)
    (H : ∀ w, J (nI (i + 1)) a1 a2 a3 (upd a4 i z0) w a6 a7 a8 a9 a10 a11) :
    wX_pathPrice_29 post J x1 x2 (nI i) z0 (nI i) fn rq a1 a2 a3 a4 a5 a6 a7 a8 a9 a10 a11 :=
  ⟨pk_in i 896 (by omega), nm_r (tb_up (nI_clamp (by omega))) (br_c (fun _ => ⟨pk_in i 896 (by omega), nm_e (nm_r (nI_1 i) (H _))⟩) (fun _ => ⟨pk_in i 896 (by omega), nm_e (nm_r (nI_1 i) (H _))⟩))⟩
theorem tb_p7 {post : Int32 → St2 → Prop} {n a b : Nat} (hn : n < 8) (ha : a < n) (hb : b < n) (hab : a ≠ b) (hC : tb_C a3)
    (H : ∀ m l w, m < 1000000 → post (nI m) (nI n, rq, a1, a2, a3, l, w, a6, a7, a8, a9, a10, a11)) :
    ∃ f, wX_pathPrice_7 post (nI a) (nI b) (nI n) rq f 0 a1 a2 a3 a4 a5 a6 a7 a8 a9 a10 a11 := by
  refine pk_loop (fun f i (u : (Nat → Int32) × (Nat → Int32)) => wX_pathPrice_7 post (nI a) (nI b) (nI n) rq f (nI i) a1 a2 a3 u.1 u.2 a6 a7 a8 a9 a10 a11) (fun i u => ∀ t, t < i → (t = b → u.1 t = nI 0) ∧ (t ≠ b → u.1 t = nI 1000000)) 7 0 (a4, a5) (by omega) (fun k hk => absurd hk (by omega)) ?_ ?_
  · intro f u hI
    refine pk_le 7 7 (fun _ => tb_fs hn hb hC (fun t ht => ?_) (fun l w hl => ?_)) (fun z => absurd z (by omega))
    · have h := hI t (by omega)
      unfold tb_en
      rw [show 7 * 0 + t = t by omega]
      by_cases e : t = b
      · have hf : tb_fin (u.1 t) (40 * 0) := ⟨0, by omega, h.1 e⟩
        exact ⟨Or.inr hf, fun _ => hf⟩
      · refine ⟨Or.inl (h.2 e), fun hg => ?_⟩
        rcases hg.2 with g | g
        · exact absurd g (by simp)
        · exact absurd g.2 e
    · obtain ⟨f1, f2, f3⟩ := tb_fullB n hn a ha b hb hab
      have hp := tb_pw n hn
      have hcl : (nI (7 * (2 ^ n - 1 - 2 ^ a) + a)).toNatClampNeg = 7 * (2 ^ n - 1 - 2 ^ a) + a := nI_clamp (by omega)
      obtain ⟨m, hm, em⟩ := (hl (2 ^ n - 1 - 2 ^ a) f3 a ha).2 ⟨f1, Or.inl f2⟩
      refine ⟨pk_in _ 896 (show 7 * (2 ^ n - 1 - 2 ^ a) + a < 896 by omega) (tb_full n hn a ha), nm_r (show _ = nI m by rw [tb_full n hn a ha, hcl, em]) ?_⟩
      exact br_t (nI_lt (a := m) (b := 1000000) (by omega) (by omega)) (H m l w (by omega))
  · intro f i u hi hI hw
    obtain ⟨l, w⟩ := u
    dsimp only at hI
    have hw' : ∀ l' w', (∀ t, t < i + 1 → (t = b → l' t = nI 0) ∧ (t ≠ b → l' t = nI 1000000)) → wX_pathPrice_7 post (nI a) (nI b) (nI n) rq f (nI (i + 1)) a1 a2 a3 l' w' a6 a7 a8 a9 a10 a11 := fun l' w' h => hw (l', w') h
    show wX_pathPrice_7 post (nI a) (nI b) (nI n) rq (f + 1) (nI i) a1 a2 a3 l w a6 a7 a8 a9 a10 a11
    refine pk_le 7 i (fun z => absurd z (by omega)) (fun _ => pk_eq i b (fun e => tb_29 hi (fun w' => hw' _ w' (fun t ht => ?_))) (fun e => tb_29 hi (fun w' => hw' _ w' (fun t ht => ?_))))
    · by_cases et : t = i
      · rw [et, pk_us]
        exact ⟨fun _ => rfl, fun g => absurd e g⟩
      · rw [pk_un et]
        exact hI t (by omega)
    · by_cases et : t = i
      · rw [et, pk_us]
        exact ⟨fun g => absurd g e, fun _ => rfl⟩
      · rw [pk_un et]
        exact hI t (by omega)
theorem tb_pp {post : Int32 → St2 → Prop} {n a b : Nat} (hn : n < 8) (ha : a < n) (hb : b < n) (hab : a ≠ b) (hP : tb_P a1) (hM : tb_M a2)
    (H : ∀ m c l w, m < 1000000 → post (nI m) (nI n, 0, a1, a2, c, l, w, a6, a7, a8, a9, a10, a11)) :
    wpX_pathPrice post (nI n, rq, a1, a2, a3, a4, a5, a6, a7, a8, a9, a10, a11) (nI a) (nI b) := by
  unfold wpX_pathPrice
  exact tb_tc hP hM (fun c hC => tb_p7 hn ha hb hab hC (fun m l w hm => H m c l w hm))
end
end
section
/-! part 04: the methods that the law calls -/
section
variable {a1 a2 a3 a4 a5 a6 a7 a8 a9 a10 a11 : Nat → Int32} {fn rq x y p : Int32}
/-- p is a town of fn towns -/
def tb_town (fn p : Int32) : Prop := ¬ p < 0 ∧ ¬ fn ≤ p
theorem tb_town_of {n i : Nat} (hn : n < 8) (hi : i < n) : tb_town (nI n) (nI i) := ⟨nI_pos (by omega), nI_ge hi (by omega)⟩
theorem tb_of_town {n : Nat} (hn : n < 8) (h : tb_town (nI n) p) : ∃ i, i < n ∧ p = nI i := by
  rcases pk_ix p (n := n) (by omega) with g | g | g
  · exact absurd g h.1
  · exact absurd g h.2
  · exact g
theorem tb_isT {post : Int32 → Prop} (h : tb_town fn p) (hp : post 1) : wpX_isTown post (fn, rq, a1, a2, a3, a4, a5, a6, a7, a8, a9, a10, a11) p :=
  br_f h.1 (br_f h.2 hp)
theorem tb_isF {post : Int32 → Prop} (h : ¬ tb_town fn p) (hp : post 0) : wpX_isTown post (fn, rq, a1, a2, a3, a4, a5, a6, a7, a8, a9, a10, a11) p :=
  br_c (fun _ => hp) (fun z => br_c (fun _ => hp) (fun z2 => absurd ⟨z, z2⟩ h))
theorem tb_2T {A B C : Prop} (hx : tb_town fn x) (hy : tb_town fn y) (hB : B) :
    wpX_isTown (fun r => ((r = 0 → A) ∧ (¬ r = 0 → wpX_isTown (fun r' => ((r' = 0 → C) ∧ (¬ r' = 0 → B))) (fn, rq, a1, a2, a3, a4, a5, a6, a7, a8, a9, a10, a11) y))) (fn, rq, a1, a2, a3, a4, a5, a6, a7, a8, a9, a10, a11) x :=
  tb_isT hx (br_f (by decide) (tb_isT hy (br_f (by decide) hB)))
theorem tb_2F {A B : Prop} (h : ¬ (tb_town fn x ∧ tb_town fn y)) (hA : A) :
    wpX_isTown (fun r => ((r = 0 → A) ∧ (¬ r = 0 → wpX_isTown (fun r' => ((r' = 0 → A) ∧ (¬ r' = 0 → B))) (fn, rq, a1, a2, a3, a4, a5, a6, a7, a8, a9, a10, a11) y))) (fn, rq, a1, a2, a3, a4, a5, a6, a7, a8, a9, a10, a11) x := by
  by_cases hx : tb_town fn x
  · exact tb_isT hx (br_f (by decide) (tb_isF (fun hy => h ⟨hx, hy⟩) (br_t rfl hA)))
  · exact tb_isF hx (br_t rfl hA)
/-! price -/
theorem tb_price_bad {post : Int32 → St2 → Prop} (h : ¬ (tb_town fn x ∧ tb_town fn y)) (hp : post (-1) (fn, rq, a1, a2, a3, a4, a5, a6, a7, a8, a9, a10, a11)) :
    wpX_price post (fn, rq, a1, a2, a3, a4, a5, a6, a7, a8, a9, a10, a11) x y p := by
  unfold wpX_price
  exact tb_2F h hp
theorem tb_price_eq {post : Int32 → St2 → Prop} (hx : tb_town fn x) (hp : post (-2) (fn, rq, a1, a2, a3, a4, a5, a6, a7, a8, a9, a10, a11)) :
    wpX_price post (fn, rq, a1, a2, a3, a4, a5, a6, a7, a8, a9, a10, a11) x x p := by
  unfold wpX_price
  exact tb_2T hx hx (br_t rfl hp)
theorem tb_price_out {post : Int32 → St2 → Prop} (hx : tb_town fn x) (hy : tb_town fn y) (hne : ¬ x = y) (ho : p < 0 ∨ ¬ p ≤ 40) (hp : post (-3) (fn, rq, a1, a2, a3, a4, a5, a6, a7, a8, a9, a10, a11)) :
    wpX_price post (fn, rq, a1, a2, a3, a4, a5, a6, a7, a8, a9, a10, a11) x y p := by
  unfold wpX_price
  exact tb_2T hx hy (br_f hne (br_c (fun _ => hp) (fun z => br_f (ho.resolve_left z) hp)))
theorem tb_price_ok {post : Int32 → St2 → Prop} {n i j : Nat} (hn : n < 8) (hi : i < n) (hj : j < n) (hij : i ≠ j) (h1 : ¬ p < 0) (h2 : p ≤ 40)
    (hp : post (a1 (7 * i + j)) (nI n, rq, upd (upd a1 (7 * i + j) p) (7 * j + i) p, a2, a3, a4, a5, a6, a7, a8, a9, a10, a11)) :
    wpX_price post (nI n, rq, a1, a2, a3, a4, a5, a6, a7, a8, a9, a10, a11) (nI i) (nI j) p := by
  have c1 : (7 * nI i + nI j).toNatClampNeg = 7 * i + j := by rw [tb_ix, nI_clamp (by omega)]
  have c2 : (7 * nI j + nI i).toNatClampNeg = 7 * j + i := by rw [tb_ix, nI_clamp (by omega)]
  have b1 : vp_in (7 * nI i + nI j) 49 := pk_in (7 * i + j) 49 (by omega) (tb_ix i j)
  have b2 : vp_in (7 * nI j + nI i) 49 := pk_in (7 * j + i) 49 (by omega) (tb_ix j i)
  have hne : ¬ nI i = nI j := by
    rw [nI_eq (by omega) (by omega)]
    exact hij
  unfold wpX_price
  refine tb_2T (tb_town_of hn hi) (tb_town_of hn hj) (br_f hne (br_f h1 (br_t h2 ⟨b1, nm_r (congrArg a1 c1) ?_⟩)))
  unfold wpX_setPrice
  exact ⟨b1, nm_r (tb_up c1) ⟨b2, nm_r (tb_up c2) hp⟩⟩
/-! mark -/
theorem tb_mark_bad {post : Int32 → St2 → Prop} (h : ¬ (tb_town fn x ∧ tb_town fn y)) (hp : post (-1) (fn, rq, a1, a2, a3, a4, a5, a6, a7, a8, a9, a10, a11)) :
    wpX_mark post (fn, rq, a1, a2, a3, a4, a5, a6, a7, a8, a9, a10, a11) x y p := by
  unfold wpX_mark
  exact tb_2F h hp
theorem tb_mark_eq {post : Int32 → St2 → Prop} (hx : tb_town fn x) (hp : post (-2) (fn, rq, a1, a2, a3, a4, a5, a6, a7, a8, a9, a10, a11)) :
    wpX_mark post (fn, rq, a1, a2, a3, a4, a5, a6, a7, a8, a9, a10, a11) x x p := by
  unfold wpX_mark
  exact tb_2T hx hx (br_t rfl hp)
theorem tb_mark_out {post : Int32 → St2 → Prop} (hx : tb_town fn x) (hy : tb_town fn y) (hne : ¬ x = y) (ho : p < 0 ∨ ¬ p ≤ 2) (hp : post (-3) (fn, rq, a1, a2, a3, a4, a5, a6, a7, a8, a9, a10, a11)) :
    wpX_mark post (fn, rq, a1, a2, a3, a4, a5, a6, a7, a8, a9, a10, a11) x y p := by
  unfold wpX_mark
  exact tb_2T hx hy (br_f hne (br_c (fun _ => hp) (fun z => br_f (ho.resolve_left z) hp)))
theorem tb_mark_ok {post : Int32 → St2 → Prop} {n i j : Nat} (hn : n < 8) (hi : i < n) (hj : j < n) (hij : i ≠ j) (h1 : ¬ p < 0) (h2 : p ≤ 2)
    (hp : post (a2 (7 * i + j)) (nI n, rq, a1, upd (upd a2 (7 * i + j) p) (7 * j + i) p, a3, a4, a5, a6, a7, a8, a9, a10, a11)) :
    wpX_mark post (nI n, rq, a1, a2, a3, a4, a5, a6, a7, a8, a9, a10, a11) (nI i) (nI j) p := by
  have c1 : (7 * nI i + nI j).toNatClampNeg = 7 * i + j := by rw [tb_ix, nI_clamp (by omega)]
  have c2 : (7 * nI j + nI i).toNatClampNeg = 7 * j + i := by rw [tb_ix, nI_clamp (by omega)]
  have b1 : vp_in (7 * nI i + nI j) 49 := pk_in (7 * i + j) 49 (by omega) (tb_ix i j)
  have b2 : vp_in (7 * nI j + nI i) 49 := pk_in (7 * j + i) 49 (by omega) (tb_ix j i)
  have hne : ¬ nI i = nI j := by
    rw [nI_eq (by omega) (by omega)]
    exact hij
  unfold wpX_mark
  refine tb_2T (tb_town_of hn hi) (tb_town_of hn hj) (br_f hne (br_f h1 (br_t h2 ⟨b1, nm_r (congrArg a2 c1) ?_⟩)))
  unfold wpX_setMark
  exact ⟨b1, nm_r (tb_up c1) ⟨b2, nm_r (tb_up c2) hp⟩⟩
/-! priceOf -/
theorem tb_po_bad {post : Int32 → Prop} (h : ¬ (tb_town fn x ∧ tb_town fn y)) (hp : post (-1)) :
    wpX_priceOf post (fn, rq, a1, a2, a3, a4, a5, a6, a7, a8, a9, a10, a11) x y := by
  unfold wpX_priceOf
  exact tb_2F h hp
theorem tb_po_ok {post : Int32 → Prop} {n i j : Nat} (hn : n < 8) (hi : i < n) (hj : j < n) (hp : post (a1 (7 * i + j))) :
    wpX_priceOf post (nI n, rq, a1, a2, a3, a4, a5, a6, a7, a8, a9, a10, a11) (nI i) (nI j) := by
  have c1 : (7 * nI i + nI j).toNatClampNeg = 7 * i + j := by rw [tb_ix, nI_clamp (by omega)]
  have b1 : vp_in (7 * nI i + nI j) 49 := pk_in (7 * i + j) 49 (by omega) (tb_ix i j)
  unfold wpX_priceOf
  refine tb_2T (tb_town_of hn hi) (tb_town_of hn hj) ⟨b1, ?_⟩
  rw [c1]
  exact hp
/-! path -/
theorem tb_path_bad {post : Int32 → St2 → Prop} (h : ¬ (tb_town fn x ∧ tb_town fn y)) (hp : post (-1) (fn, rq, a1, a2, a3, a4, a5, a6, a7, a8, a9, a10, a11)) :
    wpX_path post (fn, rq, a1, a2, a3, a4, a5, a6, a7, a8, a9, a10, a11) x y := by
  unfold wpX_path
  exact tb_2F h hp
theorem tb_path_eq {post : Int32 → St2 → Prop} (hx : tb_town fn x) (hp : post (-2) (fn, rq, a1, a2, a3, a4, a5, a6, a7, a8, a9, a10, a11)) :
    wpX_path post (fn, rq, a1, a2, a3, a4, a5, a6, a7, a8, a9, a10, a11) x x := by
  unfold wpX_path
  exact tb_2T hx hx (br_t rfl hp)
theorem tb_path_ok {post : Int32 → St2 → Prop} {n i j : Nat} (hn : n < 8) (hi : i < n) (hj : j < n) (hij : i ≠ j) (hP : tb_P a1) (hM : tb_M a2)
    (H : ∀ m c l w, m < 1000000 → post (nI m) (nI n, 0, a1, a2, c, l, w, a6, a7, a8, a9, a10, a11)) :
    wpX_path post (nI n, rq, a1, a2, a3, a4, a5, a6, a7, a8, a9, a10, a11) (nI i) (nI j) := by
  have hne : ¬ nI i = nI j := by
    rw [nI_eq (by omega) (by omega)]
    exact hij
  unfold wpX_path
  exact tb_2T (tb_town_of hn hi) (tb_town_of hn hj) (br_f hne (tb_pp hn hi hj hij hP hM (fun m c l w hm => H m c l w hm)))
/-! the constructor -/
def tb_P0 (a : Nat → Int32) (n : Nat) : Prop := ∀ k, k < n → (k / 7 = k % 7 → a k = 0) ∧ (k / 7 ≠ k % 7 → a k = 10)
theorem tb_P0P {a : Nat → Int32} (h : tb_P0 a 49) : tb_P a := by
  intro k hk
  by_cases e : k / 7 = k % 7
  · exact ⟨0, by omega, (h k hk).1 e⟩
  · exact ⟨10, by omega, (h k hk).2 e⟩
theorem tb_i125 {post : St2 → Prop} {mc ms kc ks : Nat} (H : ∀ c, tb_P0 c 49 → post (fn, rq, c, a2, a3, a4, a5, a6, a7, a8, a9, a10, a11)) :
    ∃ f, wX_init_125 post mc ms kc ks fn rq f 0 a1 a2 a3 a4 a5 a6 a7 a8 a9 a10 a11 := by
  refine pk_loop (fun f i (c : Nat → Int32) => wX_init_125 post mc ms kc ks fn rq f (nI i) c a2 a3 a4 a5 a6 a7 a8 a9 a10 a11) (fun i c => tb_P0 c i) 49 0 a1 (by omega) (fun k hk => absurd hk (by omega)) ?_ ?_
  · intro f c hI
    exact pk_le 49 49 (fun _ => H c hI) (fun z => absurd z (by omega))
  · intro f i c hi hI hw
    have hw' : ∀ c', tb_P0 c' (i + 1) → wX_init_125 post mc ms kc ks fn rq f (nI (i + 1)) c' a2 a3 a4 a5 a6 a7 a8 a9 a10 a11 := hw
    have hcl : (nI i).toNatClampNeg = i := nI_clamp (by omega)
    show wX_init_125 post mc ms kc ks fn rq (f + 1) (nI i) c a2 a3 a4 a5 a6 a7 a8 a9 a10 a11
    refine pk_le 49 i (fun z => absurd z (by omega)) (fun _ => ⟨by decide, by decide, ?_⟩)
    refine pk_eq (i / 7) (i % 7) (fun e => ⟨pk_in i 49 hi, nm_r (tb_up hcl) (nm_r (nI_1 i) (hw' _ (fun k hk => ?_)))⟩) (fun e => ⟨pk_in i 49 hi, nm_r (tb_up hcl) (nm_r (nI_1 i) (hw' _ (fun k hk => ?_)))⟩) (pk_div (d := 7) (by omega) (by omega) (by omega)) (pk_rem (d := 7) (by omega) (by omega) (by omega))
    · by_cases ek : k = i
      · rw [ek, pk_us]
        exact ⟨fun _ => rfl, fun g => absurd e g⟩
      · rw [pk_un ek]
        exact hI k (by omega)
    · by_cases ek : k = i
      · rw [ek, pk_us]
        exact ⟨fun g => absurd g e, fun _ => rfl⟩
      · rw [pk_un ek]
        exact hI k (by omega)
/-- m is the number of towns that the constructor makes out of x0 -/
def tb_cl (x0 : Int32) (m : Nat) : Prop := (2 ≤ x0 ∧ x0 ≤ 7 ∧ x0 = nI m) ∨ (¬ 2 ≤ x0 ∧ m = 2) ∨ (2 ≤ x0 ∧ ¬ x0 ≤ 7 ∧ m = 7)
theorem tb_init {post : St2 → Prop} {x0 : Int32} {m : Nat} (hc : tb_cl x0 m)
    (H : ∀ c, tb_P0 c 49 → post (nI m, 0, c, (fun _ => 0), (fun _ => 0), (fun _ => 0), (fun _ => 0), (fun _ => 0), (fun _ => 0), (fun _ => 0), (fun _ => 0), (fun _ => 0), (fun _ => 0))) :
    wpX_init post 11 1985 (0, 0) x0 := by
  unfold wpX_init
  refine ⟨by omega, by omega, by omega, by omega, by omega, by omega, by omega, by omega, by omega, by omega, by omega, by omega, by omega, by omega, by omega, by omega, by omega, by omega, by omega, by omega, by omega, by omega, ?_⟩
  rcases hc with ⟨h1, h2, h3⟩ | ⟨h1, h2⟩ | ⟨h1, h2, h3⟩
  · refine br_t h1 (br_t h2 (tb_i125 (fun c hc => ?_)))
    rw [h3]
    exact H c hc
  · refine br_f h1 (br_t (by decide) (tb_i125 (fun c hc => ?_)))
    rw [h2] at H
    exact H c hc
  · refine br_t h1 (br_f h2 (tb_i125 (fun c hc => ?_)))
    rw [h3] at H
    exact H c hc
end
end
section
/-! part 05: the law -/
section
variable {a1 a2 a3 a4 a5 a6 a7 a8 a9 a10 a11 : Nat → Int32} {fn rq x1 x2 x3 x5 x6 x9 x11 z0 z1 : Int32} {mc ms kc ks : Nat} {post : Int32 → St0 → Prop}
/-! a refused pair of towns: nothing changes -/
theorem tb_258r (h6 : ¬ x6 = 0) (h : z1 = z0) (hp : post 1 ())
    (hM' : ∀ (ψ : Int32 → St2 → Prop) (p : Int32), ψ x6 (fn, rq, a1, a2, a3, a4, a5, a6, a7, a8, a9, a10, a11) → wpX_mark ψ (fn, rq, a1, a2, a3, a4, a5, a6, a7, a8, a9, a10, a11) x2 x1 p)
    (hT : ∀ (ψ : Int32 → St2 → Prop), ψ x6 (fn, rq, a1, a2, a3, a4, a5, a6, a7, a8, a9, a10, a11) → wpX_path ψ (fn, rq, a1, a2, a3, a4, a5, a6, a7, a8, a9, a10, a11) x1 x2) :
    wL_lawOf_258 post mc ms x1 x2 x3 x6 x11 z0 z1 kc ks fn rq a1 a2 a3 a4 a5 a6 a7 a8 a9 a10 a11 := by
  refine br_t h (hM' _ _ (br_f h6 ?_))
  unfold wL_lawOf_295
  exact br_t rfl (hT _ (br_f h6 (br_t rfl hp)))
theorem tb_117r {v : Int32} (h6 : ¬ x6 = 0) (hp : post 1 ())
    (hP : ∀ (ψ : Int32 → St2 → Prop) (p : Int32), ψ x6 (fn, rq, a1, a2, a3, a4, a5, a6, a7, a8, a9, a10, a11) → wpX_price ψ (fn, rq, a1, a2, a3, a4, a5, a6, a7, a8, a9, a10, a11) x1 x2 p)
    (hM : ∀ (ψ : Int32 → St2 → Prop) (p : Int32), ψ x6 (fn, rq, a1, a2, a3, a4, a5, a6, a7, a8, a9, a10, a11) → wpX_mark ψ (fn, rq, a1, a2, a3, a4, a5, a6, a7, a8, a9, a10, a11) x1 x2 p)
    (hM' : ∀ (ψ : Int32 → St2 → Prop) (p : Int32), ψ x6 (fn, rq, a1, a2, a3, a4, a5, a6, a7, a8, a9, a10, a11) → wpX_mark ψ (fn, rq, a1, a2, a3, a4, a5, a6, a7, a8, a9, a10, a11) x2 x1 p)
    (hO : ∀ (ψ : Int32 → Prop), ψ v → wpX_priceOf ψ (fn, rq, a1, a2, a3, a4, a5, a6, a7, a8, a9, a10, a11) x2 x1)
    (hT : ∀ (ψ : Int32 → St2 → Prop), ψ x6 (fn, rq, a1, a2, a3, a4, a5, a6, a7, a8, a9, a10, a11) → wpX_path ψ (fn, rq, a1, a2, a3, a4, a5, a6, a7, a8, a9, a10, a11) x1 x2)
    (hv : (x5 = 0 ∧ v = -1) ∨ (¬ x5 = 0 ∧ x1 = x2 ∧ v = 0)) :
    wL_lawOf_117 post mc ms x1 x2 x3 x5 x6 kc ks fn rq a1 a2 a3 a4 a5 a6 a7 a8 a9 a10 a11 := by
  unfold wL_lawOf_117 wL_lawOf_118
  refine hP _ _ (br_f h6 ?_)
  unfold wL_lawOf_154
  refine br_t rfl (br_f h6 ?_)
  unfold wL_lawOf_177 wL_lawOf_178
  refine hM _ _ (br_f h6 ?_)
  unfold wL_lawOf_213
  refine br_t rfl (hO _ ?_)
  rcases hv with ⟨h1, h2⟩ | ⟨h1, h2, h3⟩
  · exact br_t h1 (tb_258r h6 h2 hp hM' hT)
  · exact br_f h1 (br_t h2 (tb_258r h6 h3 hp hM' hT))
/-! two different towns i, j of n -/
theorem tb_295f {n i j : Nat} (hn : n < 8) (hi : i < n) (hj : j < n) (hij : i ≠ j) (h : z1 = z0) (hp : post 1 ()) (hP : tb_P a1) (hM : tb_M a2) :
    wL_lawOf_295 post mc ms (nI i) (nI j) 0 z0 z1 kc ks (nI n) rq a1 a2 a3 a4 a5 a6 a7 a8 a9 a10 a11 := by
  unfold wL_lawOf_295
  exact br_t h (tb_path_ok hn hi hj hij hP hM (fun m c l w hm => br_t rfl (br_f (nI_pos (by omega)) hp)))
theorem tb_258f {n i j : Nat} (hn : n < 8) (hi : i < n) (hj : j < n) (hij : i ≠ j) (h : z1 = z0) (hp : post 1 ()) (hP : tb_P a1)
    (hr0 : x11 = 0 → a2 (7 * j + i) = 0) (hr1 : ¬ x11 = 0 → a2 (7 * j + i) = x3) (hM : ∀ k, k < 49 → k ≠ 7 * i + j → k ≠ 7 * j + i → a2 k = 0) :
    wL_lawOf_258 post mc ms (nI i) (nI j) x3 0 x11 z0 z1 kc ks (nI n) rq a1 a2 a3 a4 a5 a6 a7 a8 a9 a10 a11 := by
  have hM' : tb_M (upd (upd a2 (7 * j + i) 0) (7 * i + j) 0) := by
    intro k hk
    by_cases e1 : k = 7 * i + j
    · rw [e1, pk_us]
    · rw [pk_un e1]
      by_cases e2 : k = 7 * j + i
      · rw [e2, pk_us]
      · rw [pk_un e2]
        exact hM k hk e1 e2
  unfold wL_lawOf_258
  exact br_t h (tb_mark_ok hn hj hi (Ne.symm hij) (by decide) (by decide) (br_t rfl (br_c (fun z => tb_295f hn hi hj hij (hr0 z) hp hP hM') (fun z => tb_295f hn hi hj hij (hr1 z) hp hP hM'))))
theorem tb_213f {n i j : Nat} (hn : n < 8) (hi : i < n) (hj : j < n) (hij : i ≠ j) (h5 : ¬ x5 = 0) (h : z1 = z0) (hp : post 1 ()) (hP : tb_P a1)
    (hp0 : x9 = 0 → a1 (7 * j + i) = 10) (hp1 : ¬ x9 = 0 → a1 (7 * j + i) = x3)
    (hr0 : x11 = 0 → a2 (7 * j + i) = 0) (hr1 : ¬ x11 = 0 → a2 (7 * j + i) = x3) (hM : ∀ k, k < 49 → k ≠ 7 * i + j → k ≠ 7 * j + i → a2 k = 0) :
    wL_lawOf_213 post mc ms (nI i) (nI j) x3 x5 0 x9 x11 z0 z1 kc ks (nI n) rq a1 a2 a3 a4 a5 a6 a7 a8 a9 a10 a11 := by
  have hne : ¬ nI i = nI j := by
    rw [nI_eq (by omega) (by omega)]
    exact hij
  unfold wL_lawOf_213
  exact br_t h (tb_po_ok hn hj hi (br_f h5 (br_f hne (br_c (fun z => tb_258f hn hi hj hij (hp0 z) hp hP hr0 hr1 hM) (fun z => tb_258f hn hi hj hij (hp1 z) hp hP hr0 hr1 hM)))))
theorem tb_154f {n i j : Nat} (hn : n < 8) (hi : i < n) (hj : j < n) (hij : i ≠ j) (h5 : ¬ x5 = 0) (h : z1 = z0) (hp : post 1 ()) (hP : tb_P a1)
    (hp0 : x9 = 0 → a1 (7 * j + i) = 10) (hp1 : ¬ x9 = 0 → a1 (7 * j + i) = x3) (hM : tb_M a2) :
    wL_lawOf_154 post mc ms (nI i) (nI j) x3 x5 0 x9 z0 z1 kc ks (nI n) rq a1 a2 a3 a4 a5 a6 a7 a8 a9 a10 a11 := by
  have hne : ¬ nI i = nI j := by
    rw [nI_eq (by omega) (by omega)]
    exact hij
  have out : (x3 < 0 ∨ ¬ x3 ≤ 2) → wL_lawOf_177 post mc ms (nI i) (nI j) x3 x5 0 x9 kc ks (nI n) rq a1 a2 a3 a4 a5 a6 a7 a8 a9 a10 a11 := by
    intro ho
    unfold wL_lawOf_177 wL_lawOf_178
    exact tb_mark_out (tb_town_of hn hi) (tb_town_of hn hj) hne ho (br_t rfl (br_t rfl (tb_213f hn hi hj hij h5 rfl hp hP hp0 hp1 (fun _ => hM _ (by omega)) (fun z => absurd rfl z) (fun k hk _ _ => hM k hk))))
  unfold wL_lawOf_154
  refine br_t h (br_t rfl (br_c (fun z => out (Or.inl z)) (fun z => br_c (fun z2 => out (Or.inr (Int32.not_le.mpr z2))) (fun z2 => ?_))))
  unfold wL_lawOf_178
  refine tb_mark_ok hn hi hj hij z (Int32.not_lt.mp z2) (br_t rfl (br_f (by decide) (tb_213f hn hi hj hij h5 (hM _ (by omega)) hp hP hp0 hp1 (fun g => absurd g (by decide)) (fun _ => pk_us) (fun k hk e1 e2 => ?_))))
  rw [pk_un e2, pk_un e1]
  exact hM k hk
theorem tb_70f {x0 : Int32} {n i j : Nat} (hc : tb_cl x0 n) (hn : n < 8) (hi : i < n) (hj : j < n) (hij : i ≠ j) (h5 : ¬ x5 = 0) (hp : post 1 ()) :
    wL_lawOf_70 post 12 1998 x0 (nI i) (nI j) x3 (nI n) x5 0 0 0 := by
  have hne : ¬ nI i = nI j := by
    rw [nI_eq (by omega) (by omega)]
    exact hij
  unfold wL_lawOf_70
  refine ⟨by omega, by omega, 11, 1985, by omega, by omega, tb_init hc (fun c hc0 => br_t rfl (br_t rfl ?_))⟩
  have hP : tb_P c := tb_P0P hc0
  have e1 : c (7 * i + j) = 10 := (hc0 (7 * i + j) (by omega)).2 (by omega)
  have e2 : c (7 * j + i) = 10 := (hc0 (7 * j + i) (by omega)).2 (by omega)
  have out : (x3 < 0 ∨ ¬ x3 ≤ 40) → wL_lawOf_117 post 12 1998 (nI i) (nI j) x3 x5 0 (0 + 1 + 11) (0 + 13 + 1985) (nI n) 0 c (fun _ => 0) (fun _ => 0) (fun _ => 0) (fun _ => 0) (fun _ => 0) (fun _ => 0) (fun _ => 0) (fun _ => 0) (fun _ => 0) (fun _ => 0) := by
    intro ho
    unfold wL_lawOf_117 wL_lawOf_118
    exact tb_price_out (tb_town_of hn hi) (tb_town_of hn hj) hne ho (br_t rfl (br_t rfl (tb_154f hn hi hj hij h5 rfl hp hP (fun _ => e2) (fun z => absurd rfl z) (fun _ _ => rfl))))
  refine br_c (fun z => out (Or.inl z)) (fun z => br_c (fun z2 => out (Or.inr (Int32.not_le.mpr z2))) (fun z2 => ?_))
  have hle : x3 ≤ 40 := Int32.not_lt.mp z2
  obtain ⟨v, hv, ev⟩ := nI_of2 (M := 40) (n := 40) (by decide) z hle
  unfold wL_lawOf_118
  refine tb_price_ok hn hi hj hij z hle (br_t rfl (br_f (by decide) (tb_154f hn hi hj hij h5 e1 hp (fun k hk => ?_) (fun g => absurd g (by decide)) (fun _ => pk_us) (fun _ _ => rfl))))
  by_cases k1 : k = 7 * j + i
  · rw [k1, pk_us]
    exact ⟨v, hv, ev⟩
  · rw [pk_un k1]
    by_cases k2 : k = 7 * i + j
    · rw [k2, pk_us]
      exact ⟨v, hv, ev⟩
    · rw [pk_un k2]
      exact hP k hk
theorem tb_70bad {x0 : Int32} {n : Nat} (hc : tb_cl x0 n) (h : ¬ (tb_town (nI n) x1 ∧ tb_town (nI n) x2)) (hp : post 1 ()) :
    wL_lawOf_70 post 12 1998 x0 x1 x2 x3 (nI n) 0 (-1) 0 0 := by
  have h' : ¬ (tb_town (nI n) x2 ∧ tb_town (nI n) x1) := fun g => h ⟨g.2, g.1⟩
  unfold wL_lawOf_70
  exact ⟨by omega, by omega, 11, 1985, by omega, by omega, tb_init hc (fun c hc0 => br_t rfl (br_f (by decide) (tb_117r (v := -1) (by decide) hp (fun _ _ g => tb_price_bad h g) (fun _ _ g => tb_mark_bad h g) (fun _ _ g => tb_mark_bad h' g) (fun _ g => tb_po_bad h' g) (fun _ g => tb_path_bad h g) (Or.inl ⟨rfl, rfl⟩))))⟩
theorem tb_70eq {x0 : Int32} {n i : Nat} (hc : tb_cl x0 n) (hn : n < 8) (hi : i < n) (h5 : ¬ x5 = 0) (hp : post 1 ()) :
    wL_lawOf_70 post 12 1998 x0 (nI i) (nI i) x3 (nI n) x5 (-2) 0 0 := by
  have ht : tb_town (nI n) (nI i) := tb_town_of hn hi
  unfold wL_lawOf_70
  refine ⟨by omega, by omega, 11, 1985, by omega, by omega, tb_init hc (fun c hc0 => br_t rfl (br_f (by decide) (tb_117r (v := 0) (by decide) hp (fun _ _ g => tb_price_eq ht g) (fun _ _ g => tb_mark_eq ht g) (fun _ _ g => tb_mark_eq ht g) (fun ψ g => tb_po_ok hn hi hi ?_) (fun _ g => tb_path_eq ht g) (Or.inr ⟨h5, rfl, rfl⟩))))⟩
  rw [(hc0 (7 * i + i) (by omega)).1 (by omega)]
  exact g
theorem tb_21 {x0 : Int32} {n : Nat} (hc : tb_cl x0 n) (hn : n < 8) (hp : post 1 ()) :
    wL_lawOf_21 post 12 1998 x0 x1 x2 x3 (nI n) 0 0 := by
  have bad : ¬ (tb_town (nI n) x1 ∧ tb_town (nI n) x2) → wL_lawOf_47 post 12 1998 x0 x1 x2 x3 (nI n) 0 0 := by
    intro h
    unfold wL_lawOf_47 wL_lawOf_48
    exact br_t rfl (tb_70bad hc h hp)
  unfold wL_lawOf_21
  refine br_c (fun z => bad (fun g => g.1.1 z)) (fun y1 => br_c (fun z => bad (fun g => g.1.2 z)) (fun y2 => br_c (fun z => bad (fun g => g.2.1 z)) (fun y3 => br_c (fun z => bad (fun g => g.2.2 z)) (fun y4 => ?_))))
  obtain ⟨i, hi, rfl⟩ := tb_of_town hn ⟨y1, y2⟩
  obtain ⟨j, hj, rfl⟩ := tb_of_town hn ⟨y3, y4⟩
  unfold wL_lawOf_48
  refine br_f (by decide) (pk_eq i j (fun e => ?_) (fun e => tb_70f hc hn hi hj e (by decide) hp))
  subst e
  exact tb_70eq hc hn hi (by decide) hp
theorem tb_lawOf {p0 p1 p2 p3 : Int32} (hp : post 1 ()) : wpL_lawOf post 12 1998 () p0 p1 p2 p3 := by
  unfold wpL_lawOf
  refine br_c (fun h1 => br_c (fun h2 => ?_) (fun h2 => tb_21 (n := 7) (Or.inr (Or.inr ⟨h1, h2, rfl⟩)) (by omega) hp)) (fun h1 => tb_21 (n := 2) (Or.inr (Or.inl ⟨h1, rfl⟩)) (by omega) hp)
  have h0 : ¬ p0 < 0 := fun z => absurd (Int32.lt_of_le_of_lt h1 z) (by decide)
  obtain ⟨v, hv, ev⟩ := nI_of2 (M := 7) (n := 7) (by decide) h0 h2
  have hc : tb_cl p0 v := Or.inl ⟨h1, h2, ev⟩
  have t := tb_21 (x1 := p1) (x2 := p2) (x3 := p3) hc (by omega) hp
  rw [← ev] at t
  exact t
end
theorem tb_cell {post : Int32 → Prop} {L k : Nat} {xs : Nat → Int32} {p : Int32} (hL : L ≤ 4) (hk : k ≤ 4) (e : p = nI k) (h : ∀ v, post v) : wpL_cellAt post L xs () p := by
  subst e
  exact pk_le L k (fun _ => h _) (fun z => ⟨pk_in k L z, h _⟩)
theorem i_vc (xs : Nat → Int32) (L : Nat) (hL : L ≤ 4) : wpL_law (fun r => r = 1) L xs := by
  unfold wpL_law
  exact tb_cell hL (k := 0) (by omega) rfl (fun r1 => tb_cell hL (k := 1) (by omega) rfl (fun r2 => tb_cell hL (k := 2) (by omega) rfl (fun r3 => tb_cell hL (k := 3) (by omega) rfl (fun r4 => ⟨12, 1998, by omega, by omega, tb_lawOf rfl⟩))))
end
