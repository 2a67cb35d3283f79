section
/-! One outcome for both walks of split: X's two inner loops (heads 34 and 60) against Y's single loop (head 37), in lockstep.
    lo, hi, i, j are plain numbers; the measure (hi - i) + (j - lo) falls at every step of i, of j and at every exchange. -/
/-- the cells i and j exchanged, as both print it -/
def hs_sw (a : Nat → Int32) (i j : Nat) : Nat → Int32 := upd (upd a (nI i).toNatClampNeg (vp_nar .char (a (nI j).toNatClampNeg))) (nI j).toNatClampNeg (vp_nar .char (a (nI i).toNatClampNeg))
theorem hs_mid : ∀ n, n < 31 → ((nI n).toUInt32 >>> ((1 : Int32).toUInt32 &&& Int32.toUInt32 31)).toInt32 = nI (n / 2) := by decide +kernel
theorem hs_m1 (n : Nat) : nI (n + 1) + (-1) = nI n := by
  rw [← nI_1, Int32.add_assoc, show (1 : Int32) + (-1) = 0 from rfl, Int32.add_zero]
section
variable {post : Int32 → SX → Prop} {J : Int32 → Int32 → Int64 → (Nat → Int32) → Prop} {x1 x2 pv x4 : Int32} {c : Int64} {a : Nat → Int32} {lo hi i j n k : Nat}
/-- X, behind both scans: an exchange -/
theorem hs_x86s (hij : i < j + 1) (hj : j + 1 < 16) (h : J (nI (i + 1)) (nI j) (c + 1) (hs_sw a i (j + 1))) : wX_split_86 post J x1 x2 pv (nI i) (nI (j + 1)) c a := by
  have ii : vp_in (nI i) 16 := vp_in_nI (by omega) (by omega)
  have jj : vp_in (nI (j + 1)) 16 := vp_in_nI hj (by omega)
  unfold wX_split_86
  refine br_t (nI_lt hij (by omega)) ⟨ii, ?_⟩
  intro t et
  refine ⟨jj, ii, ?_⟩
  intro b eb
  refine ⟨jj, ?_⟩
  intro d ed f ef p ep q eq
  rw [eq, ep, ef, ed, eb, et, nI_1, nI_pred]
  exact h
/-- X, behind both scans: the pointers have met -/
theorem hs_x86e (hij : j ≤ i) (hi : i < 16) (h : post (nI j) (c, a)) : wX_split_86 post J x1 x2 pv (nI i) (nI j) c a := by
  unfold wX_split_86
  exact br_f (nI_nlt hij (by omega)) h
/-- X's scan from above stops -/
theorem hs_x60e (hlo : lo < 16) (hj : j < 16) (hc : j ≤ lo ∨ a (nI j).toNatClampNeg ≤ pv) (h : wX_split_86 post J (nI lo) x2 pv x4 (nI j) c a) : wX_split_60 post J (nI lo) x2 pv x4 c a (k + 1) (nI j) := by
  rw [wX_split_60]
  by_cases z : j ≤ lo
  · exact br_t (nI_le z (by omega)) h
  · refine br_f (nI_ge (by omega) (by omega)) ⟨vp_in_nI hj (by omega), br_t (hc.resolve_left z) h⟩
/-- .. or goes on -/
theorem hs_x60s (hj : j + 1 < 16) (hl : lo < j + 1) (hc : ¬ a (nI (j + 1)).toNatClampNeg ≤ pv) (h : wX_split_60 post J (nI lo) x2 pv x4 c a k (nI j)) : wX_split_60 post J (nI lo) x2 pv x4 c a (k + 1) (nI (j + 1)) := by
  rw [wX_split_60]
  refine br_f (nI_ge hl (by omega)) ⟨vp_in_nI hj (by omega), br_f hc ?_⟩
  intro x ex
  rw [ex, nI_pred]
  exact h
/-- X's scan from below stops -/
theorem hs_x34e (hh : hi < 16) (hi' : i < 16) (hc : hi ≤ i ∨ pv ≤ a (nI i).toNatClampNeg) (h : ∃ k, wX_split_60 post (wX_split_34 post x1 (nI hi) pv n) x1 (nI hi) pv (nI i) c a k (nI j)) : wX_split_34 post x1 (nI hi) pv (n + 1) (nI i) (nI j) c a := by
  rw [wX_split_34]
  by_cases z : hi ≤ i
  · exact br_t (nI_le z (by omega)) h
  · exact br_f (nI_ge (by omega) (by omega)) ⟨vp_in_nI hi' (by omega), br_t (hc.resolve_left z) h⟩
/-- .. or goes on -/
theorem hs_x34s (hh : hi < 16) (hi' : i < hi) (hc : ¬ pv ≤ a (nI i).toNatClampNeg) (h : wX_split_34 post x1 (nI hi) pv n (nI (i + 1)) (nI j) c a) : wX_split_34 post x1 (nI hi) pv (n + 1) (nI i) (nI j) c a := by
  rw [wX_split_34]
  refine br_f (nI_ge hi' (by omega)) ⟨vp_in_nI (by omega) (by omega), br_f hc ?_⟩
  intro x ex
  rw [ex, nI_1]
  exact h
/-- Y: the exchange -/
theorem hs_y79s (hij : i < j + 1) (hj : j + 1 < 16) (h : J (nI (i + 1)) (nI j) (c + 1) (hs_sw a i (j + 1))) : wY_split_79 post J x1 x2 pv (nI i) (nI (j + 1)) c a := by
  have ii : vp_in (nI i) 16 := vp_in_nI (by omega) (by omega)
  have jj : vp_in (nI (j + 1)) 16 := vp_in_nI hj (by omega)
  unfold wY_split_79
  refine br_t (nI_lt hij (by omega)) ⟨ii, ?_⟩
  intro t et p ep
  refine ⟨jj, ii, ?_⟩
  intro b eb q eq
  refine ⟨jj, ?_⟩
  intro d ed f ef
  rw [ef, ed, eq, eb, ep, et, nI_1, hs_m1]
  exact h
theorem hs_y79e (hij : j ≤ i) (hi : i < 16) (h : post (nI j) (c, a)) : wY_split_79 post J x1 x2 pv (nI i) (nI j) c a := by
  unfold wY_split_79
  exact br_f (nI_nlt hij (by omega)) h
theorem hs_y58e (hlo : lo < 16) (hj : j < 16) (hc : j ≤ lo ∨ a (nI j).toNatClampNeg ≤ pv) (h : wY_split_79 post J (nI lo) x2 pv x4 (nI j) c a) : wY_split_58 post J (nI lo) x2 pv x4 (nI j) c a := by
  unfold wY_split_58
  by_cases z : j ≤ lo
  · exact br_t (nI_le z (by omega)) h
  · exact br_f (nI_ge (by omega) (by omega)) ⟨vp_in_nI hj (by omega), br_t (hc.resolve_left z) h⟩
theorem hs_y58s (hj : j + 1 < 16) (hl : lo < j + 1) (hc : ¬ a (nI (j + 1)).toNatClampNeg ≤ pv) (h : J x4 (nI j) c a) : wY_split_58 post J (nI lo) x2 pv x4 (nI (j + 1)) c a := by
  unfold wY_split_58
  refine br_f (nI_ge hl (by omega)) ⟨vp_in_nI hj (by omega), br_f hc ?_⟩
  intro x ex
  rw [ex, hs_m1]
  exact h
theorem hs_y37e (hh : hi < 16) (hi' : i < 16) (hc : hi ≤ i ∨ pv ≤ a (nI i).toNatClampNeg) (h : wY_split_58 post (wY_split_37 post x1 (nI hi) pv n) x1 (nI hi) pv (nI i) (nI j) c a) : wY_split_37 post x1 (nI hi) pv (n + 1) (nI i) (nI j) c a := by
  rw [wY_split_37]
  by_cases z : hi ≤ i
  · exact br_t (nI_le z (by omega)) h
  · exact br_f (nI_ge (by omega) (by omega)) ⟨vp_in_nI hi' (by omega), br_t (hc.resolve_left z) h⟩
theorem hs_y37s (hh : hi < 16) (hi' : i < hi) (hc : ¬ pv ≤ a (nI i).toNatClampNeg) (h : wY_split_37 post x1 (nI hi) pv n (nI (i + 1)) (nI j) c a) : wY_split_37 post x1 (nI hi) pv (n + 1) (nI i) (nI j) c a := by
  rw [wY_split_37]
  refine br_f (nI_ge hi' (by omega)) ⟨vp_in_nI (by omega) (by omega), br_f hc ?_⟩
  intro x ex
  rw [ex, nI_1]
  exact h
end
/-- from the head of both loops, with the measure below m: one outcome, whatever is asked of it -/
def hs_P (lo hi : Nat) (pv : Int32) (m : Nat) : Prop := ∀ (i j : Nat) (c : Int64) (a : Nat → Int32), lo ≤ i → i ≤ hi → lo ≤ j → j ≤ hi → (hi - i) + (j - lo) < m →
  ∃ (r : Int32) (u : Int64 × (Nat → Int32)), (∀ (post : Int32 → SX → Prop) (n : Nat), m ≤ n → post r u → wX_split_34 post (nI lo) (nI hi) pv n (nI i) (nI j) c a) ∧
    (∀ (post : Int32 → SY → Prop) (n : Nat), m ≤ n → post r u → wY_split_37 post (nI lo) (nI hi) pv n (nI i) (nI j) c a)
/-- the same where the scan from below has stopped: X stands at the head of its second scan -/
def hs_Q (lo hi : Nat) (pv : Int32) (m : Nat) : Prop := ∀ (i j : Nat) (c : Int64) (a : Nat → Int32), lo ≤ i → i ≤ hi → lo ≤ j → j ≤ hi → (hi - i) + (j - lo) < m → (hi ≤ i ∨ pv ≤ a (nI i).toNatClampNeg) →
  ∃ (r : Int32) (u : Int64 × (Nat → Int32)), (∀ (post : Int32 → SX → Prop) (n k : Nat), m ≤ n + 1 → m ≤ k → post r u → wX_split_60 post (wX_split_34 post (nI lo) (nI hi) pv n) (nI lo) (nI hi) pv (nI i) c a k (nI j)) ∧
    (∀ (post : Int32 → SY → Prop) (n : Nat), m ≤ n → post r u → wY_split_37 post (nI lo) (nI hi) pv n (nI i) (nI j) c a)
theorem hs_ex {m n : Nat} (h : m + 1 ≤ n) : ∃ n', n = n' + 1 ∧ m ≤ n' := ⟨n - 1, by omega, by omega⟩
theorem hs_stepQ {lo hi : Nat} {pv : Int32} {m : Nat} (h15 : hi ≤ 15) (ihP : hs_P lo hi pv m) (ihQ : hs_Q lo hi pv m) : hs_Q lo hi pv (m + 1) := by
  intro i j c a h1 h2 h3 h4 hm hc
  have l16 : lo < 16 := by omega
  have h16 : hi < 16 := by omega
  have i16 : i < 16 := by omega
  have j16 : j < 16 := by omega
  by_cases hj : j ≤ lo ∨ a (nI j).toNatClampNeg ≤ pv
  · by_cases hij : j ≤ i
    · refine ⟨nI j, (c, a), fun post n k hn hk hp => ?_, fun post n hn hp => ?_⟩
      · obtain ⟨k', rfl, -⟩ := hs_ex hk
        exact hs_x60e l16 j16 hj (hs_x86e hij i16 hp)
      · obtain ⟨n', rfl, -⟩ := hs_ex hn
        exact hs_y37e h16 i16 hc (hs_y58e l16 j16 hj (hs_y79e hij i16 hp))
    · obtain ⟨j', rfl⟩ : ∃ j', j = j' + 1 := ⟨j - 1, by clear hc hj; omega⟩
      have hij' : i < j' + 1 := by omega
      obtain ⟨r, u, hX, hY⟩ := ihP (i + 1) j' (c + 1) (hs_sw a i (j' + 1)) (by clear hc hj; omega) (by clear hc hj; omega) (by clear hc hj; omega) (by clear hc hj; omega) (by clear hc hj; omega)
      refine ⟨r, u, fun post n k hn hk hp => ?_, fun post n hn hp => ?_⟩
      · obtain ⟨k', rfl, -⟩ := hs_ex hk
        exact hs_x60e l16 j16 hj (hs_x86s hij' j16 (hX post n (Nat.le_of_succ_le_succ hn) hp))
      · obtain ⟨n', rfl, hn'⟩ := hs_ex hn
        exact hs_y37e h16 i16 hc (hs_y58e l16 j16 hj (hs_y79s hij' j16 (hY post n' hn' hp)))
  · have hj1 : ¬ j ≤ lo := fun z => hj (Or.inl z)
    have hj2 : ¬ a (nI j).toNatClampNeg ≤ pv := fun z => hj (Or.inr z)
    obtain ⟨j', rfl⟩ : ∃ j', j = j' + 1 := ⟨j - 1, by clear hc hj; omega⟩
    have hl : lo < j' + 1 := by omega
    obtain ⟨r, u, hX, hY⟩ := ihQ i j' c a h1 h2 (by clear hc hj; omega) (by clear hc hj; omega) (by clear hc hj; omega) hc
    refine ⟨r, u, fun post n k hn hk hp => ?_, fun post n hn hp => ?_⟩
    · obtain ⟨k', rfl, hk'⟩ := hs_ex hk
      exact hs_x60s j16 hl hj2 (hX post n k' (Nat.le_of_succ_le hn) hk' hp)
    · obtain ⟨n', rfl, hn'⟩ := hs_ex hn
      exact hs_y37e h16 i16 hc (hs_y58s j16 hl hj2 (hY post n' hn' hp))
theorem hs_stepP {lo hi : Nat} {pv : Int32} {m : Nat} (h15 : hi ≤ 15) (ihP : hs_P lo hi pv m) (ihQ : hs_Q lo hi pv (m + 1)) : hs_P lo hi pv (m + 1) := by
  intro i j c a h1 h2 h3 h4 hm
  have h16 : hi < 16 := by omega
  have i16 : i < 16 := by omega
  by_cases hc : hi ≤ i ∨ pv ≤ a (nI i).toNatClampNeg
  · obtain ⟨r, u, hX, hY⟩ := ihQ i j c a h1 h2 h3 h4 hm hc
    refine ⟨r, u, fun post n hn hp => ?_, hY⟩
    obtain ⟨n', rfl, -⟩ := hs_ex hn
    exact hs_x34e h16 i16 hc ⟨m + 1, hX post n' (m + 1) hn (Nat.le_refl _) hp⟩
  · have hc1 : i < hi := Nat.lt_of_not_le fun z => hc (Or.inl z)
    have hc2 : ¬ pv ≤ a (nI i).toNatClampNeg := fun z => hc (Or.inr z)
    obtain ⟨r, u, hX, hY⟩ := ihP (i + 1) j c a (by clear hc; omega) (by clear hc; omega) h3 h4 (by clear hc; omega)
    refine ⟨r, u, fun post n hn hp => ?_, fun post n hn hp => ?_⟩
    · obtain ⟨n', rfl, hn'⟩ := hs_ex hn
      exact hs_x34s h16 hc1 hc2 (hX post n' hn' hp)
    · obtain ⟨n', rfl, hn'⟩ := hs_ex hn
      exact hs_y37s h16 hc1 hc2 (hY post n' hn' hp)
theorem hs_main {lo hi : Nat} {pv : Int32} (h15 : hi ≤ 15) (m : Nat) : hs_P lo hi pv m ∧ hs_Q lo hi pv m := by
  induction m with
  | zero => exact ⟨fun i j c a _ _ _ _ h => absurd h (Nat.not_lt_zero _), fun i j c a _ _ _ _ h => absurd h (Nat.not_lt_zero _)⟩
  | succ m ih =>
    have q := hs_stepQ h15 ih.1 ih.2
    exact ⟨hs_stepP h15 ih.1 q, q⟩
end
section
/-- both sides hold the same count and the same sixteen cells -/
def i_Rel (k : Nat) (u : SX) (v : SY) : Prop := u = v
theorem i_up {k : Nat} {u : SX} {v : SY} (h : i_Rel k u v) : i_Rel (k + 3) u v := h
theorem i_vc0 : wpX_init (fun u => wpY_init (fun v => i_Rel 0 u v)) := rfl
theorem hs_in {x : Int32} (h0 : ¬ x < 0) (h : x ≤ 15) : vp_in x 16 := by
  obtain ⟨j, hj, rfl⟩ := nI_of2 (M := 15) (n := 15) (by decide) h0 h
  exact vp_in_nI (by omega) (by omega)
theorem i_vc_put {k : Nat} {u : SX} {v : SY} (I : i_Rel k u v) (hk : k + 3 ≤ 1536) (v1 : Int32) (v2 : Int32) : wpX_put (fun r u' => wpY_put (fun r' v' => r' = r ∧ i_Rel (k + 3) u' v') v v1 v2) u v1 v2 := by
  cases I
  obtain ⟨c, a⟩ := u
  by_cases h0 : v1 < 0
  · exact br_t h0 (br_t h0 ⟨rfl, rfl⟩)
  · by_cases h15 : v1 ≤ 15
    · have hi := hs_in h0 h15
      refine br_f h0 (br_t h15 ⟨hi, fun a1 e1 => ?_⟩)
      refine br_f h0 (br_t h15 ⟨hi, fun a2 e2 => ⟨rfl, ?_⟩⟩)
      cases e1.trans e2.symm
      exact rfl
    · exact br_f h0 (br_f h15 (br_f h0 (br_f h15 ⟨rfl, rfl⟩)))
theorem i_vc_split {k : Nat} {u : SX} {v : SY} (I : i_Rel k u v) (hk : k + 3 ≤ 1536) (v1 : Int32) (v2 : Int32) : wpX_split (fun r u' => wpY_split (fun r' v' => r' = r ∧ i_Rel (k + 3) u' v') v v1 v2) u v1 v2 := by
  cases I
  obtain ⟨c, a⟩ := u
  by_cases h0 : v1 < 0
  · exact br_t h0 (br_t h0 ⟨rfl, rfl⟩)
  · by_cases h15 : 15 < v2
    · exact br_f h0 (br_t h15 (br_f h0 (br_t h15 ⟨rfl, rfl⟩)))
    · by_cases hle : v1 ≤ v2
      · have h20 : ¬ v2 < 0 := Int32.not_lt.mpr (Int32.le_trans (Int32.not_lt.mp h0) hle)
        obtain ⟨lo, hlo, rfl⟩ := nI_of h0
        obtain ⟨hi, hhi, rfl⟩ := nI_of2 (M := 15) (n := 15) (by decide) h20 (Int32.not_lt.mp h15)
        have hn : lo ≤ hi := (nI_leI hlo (by omega)).mp hle
        have hm := hs_mid (lo + hi) (by omega)
        rw [← nI_add] at hm
        have hin : vp_in (((nI lo + nI hi).toUInt32 >>> ((1 : Int32).toUInt32 &&& Int32.toUInt32 31)).toInt32) 16 := by
          rw [hm]; exact vp_in_nI (by omega) (by omega)
        obtain ⟨r, u, hX, hY⟩ := (hs_main (lo := lo) (hi := hi) (pv := a (((nI lo + nI hi).toUInt32 >>> ((1 : Int32).toUInt32 &&& Int32.toUInt32 31)).toInt32).toNatClampNeg) hhi ((hi - lo) + (hi - lo) + 1)).1 lo hi c a (Nat.le_refl _) hn hn (Nat.le_refl _) (Nat.lt_succ_self _)
        refine br_f h0 (br_f h15 (br_t hle ⟨hin, fun p ep => ⟨(hi - lo) + (hi - lo) + 1, ?_⟩⟩))
        rw [ep]
        refine hX _ _ (Nat.le_refl _) ?_
        refine br_f h0 (br_f h15 (br_t hle ⟨hin, fun q eq => ⟨(hi - lo) + (hi - lo) + 1, ?_⟩⟩))
        rw [eq]
        exact hY _ _ (Nat.le_refl _) ⟨rfl, rfl⟩
      · exact br_f h0 (br_f h15 (br_f hle (br_f h0 (br_f h15 (br_f hle ⟨rfl, rfl⟩)))))
theorem i_vc_at {k : Nat} {u : SX} {v : SY} (I : i_Rel k u v) (hk : k + 3 ≤ 1536) (v1 : Int32) : wpX_at (fun r => wpY_at (fun r' => r' = r ∧ i_Rel (k + 3) u v) v v1) u v1 := by
  cases I
  obtain ⟨c, a⟩ := u
  by_cases h0 : v1 < 0
  · exact br_t h0 (br_t h0 ⟨rfl, rfl⟩)
  · by_cases h15 : v1 ≤ 15
    · have hi := hs_in h0 h15
      exact br_f h0 (br_t h15 ⟨hi, br_f h0 (br_t h15 ⟨hi, rfl, rfl⟩)⟩)
    · exact br_f h0 (br_f h15 (br_f h0 (br_f h15 ⟨rfl, rfl⟩)))
theorem i_vc_swaps {k : Nat} {u : SX} {v : SY} (I : i_Rel k u v) (hk : k + 3 ≤ 1536) : wpX_swaps (fun r => wpY_swaps (fun r' => r' = r ∧ i_Rel (k + 3) u v) v) u := by
  cases I
  obtain ⟨c, a⟩ := u
  exact ⟨rfl, rfl⟩
end
