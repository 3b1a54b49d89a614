section
/-- the sizes lie from 1 to 6 -/
def mm_S (a1 : Nat → Int32) : Prop := ∀ i, i < 2 → ∃ k, 1 ≤ k ∧ k ≤ 6 ∧ a1 i = nI k
/-- the successors lie below 6 -/
def mm_N (a2 : Nat → Int32) : Prop := ∀ j, j < 24 → ∃ k, k < 6 ∧ a2 j = nI k
/-- no state differs from itself (the pairs below c) -/
def mm_D (c : Nat) (a4 : Nat → Int32) : Prop := ∀ p, p < 12 → 13 * p < c → a4 (13 * p) = 0
theorem mm_D_0 (a4 : Nat → Int32) : mm_D 0 a4 := fun p _ h => absurd h (by omega)
theorem mm_D_p0 {c k : Nat} {a4 : Nat → Int32} (h : mm_D c a4) : mm_D c (upd a4 k 0) := by
  intro p hp hc
  by_cases e : 13 * p = k
  · rw [e, pk_us]
  · rw [pk_un e]
    exact h p hp hc
theorem mm_D_px {c k : Nat} {a4 : Nat → Int32} {x : Int32} (h : mm_D c a4) (hk : k / 12 ≠ k % 12) : mm_D c (upd a4 k x) := by
  intro p hp hc
  by_cases e : 13 * p = k
  · exact absurd (show k / 12 = k % 12 by omega) hk
  · rw [pk_un e]
    exact h p hp hc
theorem mm_D_s0 {k : Nat} {a4 : Nat → Int32} (h : mm_D k a4) : mm_D (k + 1) (upd a4 k 0) := by
  intro p hp hc
  by_cases e : 13 * p = k
  · rw [e, pk_us]
  · rw [pk_un e]
    exact h p hp (by omega)
theorem mm_D_sx {k : Nat} {a4 : Nat → Int32} {x : Int32} (h : mm_D k a4) (hk : k / 12 ≠ k % 12) : mm_D (k + 1) (upd a4 k x) := by
  intro p hp hc
  by_cases e : 13 * p = k
  · exact absurd (show k / 12 = k % 12 by omega) hk
  · rw [pk_un e]
    exact h p hp (by omega)
theorem mm_x12 (p q : Nat) : 12 * nI p + nI q = nI (12 * p + q) := by
  rw [show (12 : Int32) = nI 12 from rfl, pk_mul, nI_add]
theorem mm_x2 (p q : Nat) : 2 * nI p + nI q = nI (2 * p + q) := by
  rw [show (2 : Int32) = nI 2 from rfl, pk_mul, nI_add]
theorem mm_x2' (p : Nat) : 2 * nI p = nI (2 * p) := by
  rw [show (2 : Int32) = nI 2 from rfl, pk_mul]
theorem mm_d6 {p : Nat} (hp : p < 2 ^ 31) : nI p / 6 = nI (p / 6) := by
  rw [show (6 : Int32) = nI 6 from rfl, pk_div hp (by omega) (by omega)]
theorem mm_r6 {p : Nat} (hp : p < 2 ^ 31) : nI p - nI p / 6 * 6 = nI (p % 6) := by
  rw [show (6 : Int32) = nI 6 from rfl, pk_rem hp (by omega) (by omega)]
theorem mm_d12 {p : Nat} (hp : p < 2 ^ 31) : nI p / 12 = nI (p / 12) := by
  rw [show (12 : Int32) = nI 12 from rfl, pk_div hp (by omega) (by omega)]
theorem mm_r12 {p : Nat} (hp : p < 2 ^ 31) : nI p - nI p / 12 * 12 = nI (p % 12) := by
  rw [show (12 : Int32) = nI 12 from rfl, pk_rem hp (by omega) (by omega)]
section
variable {fc fu : Int32} {a1 a2 a3 a4 a5 a6 a7 a8 : Nat → Int32}
theorem mm_isM {post : Int32 → Prop} {m : Nat} (hm : m < 2) (H : post 1) : wpX_isMachine post () (nI m) := by
  unfold wpX_isMachine
  exact pk_eq m 0 (fun _ => H) (fun _ => pk_eq m 1 (fun _ => H) (fun _ => absurd hm (by omega)))
theorem mm_isN {post : Int32 → Prop} {x : Int32} (h0 : ¬ x = 0) (h1 : ¬ x = 1) (H : post 0) : wpX_isMachine post () x := by
  unfold wpX_isMachine
  exact br_f h0 (br_f h1 H)
theorem mm_after {post : Int32 → Prop} (hN : mm_N a2) {p l : Nat} (hp : p < 12) (hl : l < 2)
    (H : ∀ k, k < 6 → a2 (2 * p + l) = nI k → post (nI (6 * (p / 6) + k))) :
    wpX_after post (fc, fu, a1, a2, a3, a4, a5, a6, a7, a8) (nI p) (nI l) := by
  obtain ⟨k, hk, e⟩ := hN (2 * p + l) (by omega)
  have e2 : 6 * (nI p / 6) + nI k = nI (6 * (p / 6) + k) := by
    rw [mm_d6 (by omega), show (6 : Int32) = nI 6 from rfl, pk_mul, nI_add]
  unfold wpX_after
  dsimp only
  rw [mm_x2, nI_clamp (by omega), e, e2]
  exact ⟨by decide, vp_in_nI (by omega) (by omega), H k hk e⟩
theorem mm_there {post : Int32 → Prop} {p : Nat} (hp : p < 12) (h0 : post 0) (h1 : post 1) :
    wpX_isThere post (fc, fu, a1, a2, a3, a4, a5, a6, a7, a8) (nI p) := by
  unfold wpX_isThere
  dsimp only
  refine ⟨by decide, by decide, ?_, br_c (fun _ => h0) (fun _ => h1)⟩
  rw [mm_d6 (by omega)]
  exact vp_in_nI (by omega) (by omega)
theorem mm_goes {post : Int32 → Prop} (hN : mm_N a2) (hD : mm_D 144 a4) {p q l : Nat} (hp : p < 12) (hq : q < 12) (hl : 0 < l) (hl2 : l < 2 ^ 31)
    (h0 : post 0) (h1 : p ≠ q → post 1) :
    wpX_goesTo post (fc, fu, a1, a2, a3, a4, a5, a6, a7, a8) (nI p) (nI q) (nI l) := by
  unfold wpX_goesTo
  dsimp only
  refine pk_loop (σ := Unit) (fun n i _ => wX_goesTo_3 post (nI p) (nI q) (nI l) fc fu a1 a2 a3 a4 a5 a6 a7 a8 n (nI i)) (fun _ _ => True) 2 0 () (by omega) trivial ?_ ?_
  · intro n _ _
    exact pk_le 2 2 (fun _ => h0) (fun z => absurd z (by omega))
  · intro n i _ hi _ hw
    refine pk_le 2 i (fun z => absurd z (by omega)) (fun _ => mm_after hN hp hi (fun k hk ek => mm_after hN hq hi (fun k' hk' ek' => ?_)))
    rw [mm_x12, nI_clamp (by omega)]
    refine ⟨vp_in_nI (by omega) (by omega), br_c (fun z => h1 (fun g => ?_)) (fun _ => nm_r (nI_1 i) (hw () trivial))⟩
    subst g
    have kk : k = k' := (nI_eq (by omega) (by omega)).mp (ek.symm.trans ek')
    subst kk
    rw [show 12 * (6 * (p / 6) + k) + (6 * (p / 6) + k) = 13 * (6 * (p / 6) + k) by omega, hD _ (by omega) (by omega)] at z
    exact absurd z.symm (nI_ne0 hl hl2)
theorem mm_129 {post : St2 → Prop} {J : Int32 → (Nat → Int32) → (Nat → Int32) → (Nat → Int32) → (Nat → Int32) → (Nat → Int32) → (Nat → Int32) → (Nat → Int32) → (Nat → Int32) → Prop}
    (hN : mm_N a2) {l : Nat} (hl : 2 ≤ l) (hl2 : l < 100) (hD : mm_D 144 a4) (H : ∀ s, mm_D 144 s → J (nI (l + 1)) a1 a2 a3 s a5 a6 a7 a8) :
    ∃ n, wX_refresh_129 post J (nI l) fc fu n 0 a1 a2 a3 a4 a5 a6 a7 a8 := by
  refine pk_loop (fun n k s => wX_refresh_129 post J (nI l) fc fu n (nI k) a1 a2 a3 s a5 a6 a7 a8) (fun _ s => mm_D 144 s) 144 0 a4 (by omega) hD ?_ ?_
  · intro n s h
    exact pk_le 144 144 (fun _ => nm_r (nI_1 l) (H s h)) (fun z => absurd z (by omega))
  · intro n k s hk h hw
    have e3 : nI l - 1 = nI (l - 1) := pk_sub (a := l) (b := 1) (by omega)
    refine pk_le 144 k (fun z => absurd z (by omega)) (fun _ => ?_)
    rw [mm_r12 (show k < 2 ^ 31 by omega), mm_d12 (show k < 2 ^ 31 by omega), e3, nI_clamp (show k < 2 ^ 31 by omega)]
    refine ⟨pk_in k 144 hk, br_c (fun z => ⟨by decide, mm_there (by omega) ?_ ?_⟩) (fun _ => nm_r (nI_1 k) (hw s h))⟩
    · exact br_t rfl (nm_r (nI_1 k) (hw s h))
    · refine br_f (by decide) ⟨by decide, mm_there (by omega) ?_ ?_⟩
      · exact br_t rfl (nm_r (nI_1 k) (hw s h))
      · refine br_f (by decide) ⟨by decide, by decide, mm_goes hN h (by omega) (by omega) (by omega) (by omega) ?_ (fun g => ?_)⟩
        · exact br_t rfl ⟨pk_in k 144 hk, nm_e (nm_r (nI_1 k) (hw _ (mm_D_p0 h)))⟩
        · exact br_f (by decide) ⟨pk_in k 144 hk, nm_e (nm_r (nI_1 k) (hw _ (mm_D_px h g)))⟩
theorem mm_121 {post : St2 → Prop} (hN : mm_N a2) (hD : mm_D 144 a4) (H : ∀ s, mm_D 144 s → post (fc, fu, a1, a2, a3, s, a5, a6, a7, a8)) :
    ∃ n, wX_refresh_121 post fc fu n 2 a1 a2 a3 a4 a5 a6 a7 a8 := by
  refine pk_loop (fun n l s => wX_refresh_121 post fc fu n (nI l) a1 a2 a3 s a5 a6 a7 a8) (fun l s => 2 ≤ l ∧ mm_D 144 s) 12 2 a4 (by omega) ⟨by omega, hD⟩ ?_ ?_
  · intro n s h
    exact pk_lt 11 12 (fun _ => H s h.2) (fun z => absurd z (by omega))
  · intro n l s hl h hw
    exact pk_lt 11 l (fun z => absurd z (by omega)) (fun _ => mm_129 hN h.1 (by omega) h.2 (fun s' h' => hw s' ⟨by have := h.1; omega, h'⟩))
theorem mm_79 {post : St2 → Prop} {J : Int32 → (Nat → Int32) → (Nat → Int32) → (Nat → Int32) → (Nat → Int32) → (Nat → Int32) → (Nat → Int32) → (Nat → Int32) → (Nat → Int32) → Prop}
    {k p q : Nat} {x : Int32} (hk : k < 144) (hp : p < 12) (hq : q < 12) (H0 : J (nI (k + 1)) a1 a2 a3 (upd a4 k 0) a5 a6 a7 a8)
    (H1 : ¬ x = 0 → J (nI (k + 1)) a1 a2 a3 (upd a4 k 1) a5 a6 a7 a8) :
    wX_refresh_79 post J (nI k) (nI p) (nI q) x fc fu a1 a2 a3 a4 a5 a6 a7 a8 := by
  unfold wX_refresh_79
  rw [nI_clamp (show k < 2 ^ 31 by omega)]
  refine br_c (fun _ => ⟨pk_in k 144 hk, nm_e (nm_r (nI_1 k) H0)⟩) (fun z => mm_there hp ?_ ?_)
  · exact br_t rfl ⟨pk_in k 144 hk, nm_e (nm_r (nI_1 k) H0)⟩
  · refine br_f (by decide) (mm_there hq ?_ ?_)
    · exact br_t rfl ⟨pk_in k 144 hk, nm_e (nm_r (nI_1 k) H0)⟩
    · exact br_f (by decide) ⟨pk_in k 144 hk, nm_e (nm_r (nI_1 k) (H1 z))⟩
theorem mm_15 {post : St2 → Prop} (hN : mm_N a2) (H : ∀ s, mm_D 144 s → post (fc, fu, a1, a2, a3, s, a5, a6, a7, a8)) :
    ∃ n, wX_refresh_15 post fc fu n 0 a1 a2 a3 a4 a5 a6 a7 a8 := by
  refine pk_loop (fun n k s => wX_refresh_15 post fc fu n (nI k) a1 a2 a3 s a5 a6 a7 a8) (fun k s => mm_D k s) 144 0 a4 (by omega) (mm_D_0 a4) ?_ ?_
  · intro n s h
    exact pk_le 144 144 (fun _ => mm_121 hN h H) (fun z => absurd z (by omega))
  · intro n k s hk h hw
    have G0 := hw _ (mm_D_s0 h)
    have G1 : k / 12 ≠ k % 12 → _ := fun g => hw _ (mm_D_sx (x := 1) h g)
    have hp : k / 12 < 12 := by omega
    have hq : k % 12 < 12 := by omega
    have e1 : ∀ p : Nat, 2 * nI p + 1 = nI (2 * p + 1) := fun p => mm_x2 p 1
    refine pk_le 144 k (fun z => absurd z (by omega)) (fun _ => ⟨by decide, nm_r (mm_d12 (by omega)) ⟨by decide, nm_r (mm_r12 (by omega)) ?_⟩⟩)
    rw [e1, e1, mm_x2', mm_x2', nI_clamp (show 2 * (k / 12) < 2 ^ 31 by omega), nI_clamp (show 2 * (k % 12) < 2 ^ 31 by omega), nI_clamp (show 2 * (k / 12) + 1 < 2 ^ 31 by omega), nI_clamp (show 2 * (k % 12) + 1 < 2 ^ 31 by omega)]
    refine ⟨vp_in_nI (by omega) (by omega), vp_in_nI (by omega) (by omega), br_c (fun z => ⟨vp_in_nI (by omega) (by omega), vp_in_nI (by omega) (by omega), br_c (fun z' => ?_) (fun z' => ?_)⟩) (fun z => ?_)⟩
    · exact mm_79 hk hp hq G0 (fun g => absurd rfl g)
    · exact mm_79 hk hp hq G0 (fun _ => G1 (fun g => z' (by rw [g])))
    · exact mm_79 hk hp hq G0 (fun _ => G1 (fun g => z (by rw [g])))
theorem mm_refresh {post : St2 → Prop} (hN : mm_N a2) (H : ∀ s, mm_D 144 s → post (fc, 1, a1, a2, a3, s, a5, a6, a7, a8)) :
    wpX_refresh post (fc, 0, a1, a2, a3, a4, a5, a6, a7, a8) := by
  unfold wpX_refresh
  dsimp only
  exact br_t rfl (mm_15 hN H)
end
end
section
section
variable {fc fu : Int32} {a1 a2 a3 a4 a5 a6 a7 a8 : Nat → Int32}
theorem mm_2 {P : Nat → Prop} {m : Nat} (hm : m < 2) (h0 : P 0) (h1 : P 1) : P m := by
  rcases (show m = 0 ∨ m = 1 by omega) with e | e
  · rw [e]
    exact h0
  · rw [e]
    exact h1
theorem mm_place {post : Int32 → Prop} (hS : mm_S a1) {m : Nat} (hm : m < 2) (H : post (nI (6 * m))) :
    wpX_placeOf post (fc, fu, a1, a2, a3, a4, a5, a6, a7, a8) (nI (8 * m)) := by
  unfold wpX_placeOf
  dsimp only
  have e1 : nI (8 * m) >>> ((3 : Int32) &&& 31) = nI m := mm_2 (P := fun m => nI (8 * m) >>> ((3 : Int32) &&& 31) = nI m) hm (by decide) (by decide)
  have e2 : nI (8 * m) &&& 7 = nI 0 := mm_2 (P := fun m => nI (8 * m) &&& 7 = nI 0) hm (by decide) (by decide)
  have e3 : 6 * nI m + nI 0 = nI (6 * m) := mm_2 (P := fun m => 6 * nI m + nI 0 = nI (6 * m)) hm (by decide) (by decide)
  obtain ⟨k, hk, hk', e⟩ := hS m hm
  refine nm_r e1 (nm_r e2 (mm_isM hm (br_f (by decide) ⟨pk_in m 2 hm, ?_⟩)))
  rw [nI_clamp (show m < 2 ^ 31 by omega), e, e3]
  exact pk_le k 0 (fun z => absurd z (by omega)) (fun _ => H)
theorem mm_place7 {post : Int32 → Prop} (hS : mm_S a1) (H : post (-1)) :
    wpX_placeOf post (fc, fu, a1, a2, a3, a4, a5, a6, a7, a8) 7 := by
  unfold wpX_placeOf
  dsimp only
  obtain ⟨k, hk, hk', e⟩ := hS 0 (by omega)
  refine nm_r (show (7 : Int32) >>> ((3 : Int32) &&& 31) = nI 0 by decide) (nm_r (show (7 : Int32) &&& 7 = nI 7 by decide) (mm_isM (by omega) (br_f (by decide) ⟨pk_in 0 2 (by omega), ?_⟩)))
  rw [nI_clamp (show 0 < 2 ^ 31 by omega), e]
  exact pk_le k 7 (fun _ => H) (fun z => absurd z (by omega))
theorem mm_letters {post : Int32 → Prop} {c : Int32} (H : ∀ t, t ≤ 11 → post (nI t)) : wpX_lettersOf post () c := by
  unfold wpX_lettersOf
  refine pk_loop (σ := Unit) (fun n i _ => wX_lettersOf_2 post c n (nI i)) (fun _ _ => True) 11 0 () (by omega) trivial ?_ ?_
  · intro n _ _
    exact pk_le 11 11 (fun _ => H 11 (by omega)) (fun z => absurd z (by omega))
  · intro n i _ hi _ hw
    exact pk_le 11 i (fun z => absurd z (by omega)) (fun _ => br_c (fun _ => H i (by omega)) (fun _ => nm_r (nI_1 i) (hw () trivial)))
theorem mm_letters1 {post : Int32 → Prop} (H : post (nI 0)) : wpX_lettersOf post () 1 := by
  unfold wpX_lettersOf
  exact ⟨1, br_f (by decide) (br_t (by decide) H)⟩
theorem mm_letters2 {post : Int32 → Prop} {l : Nat} (hl : l < 2) (H : post (nI 1)) : wpX_lettersOf post () (nI (2 + l)) := by
  unfold wpX_lettersOf
  refine ⟨2, br_f (by decide) (br_f ?_ (nm_r (show (0 : Int32) + 1 = nI 1 by decide) (br_f (by decide) (br_t ?_ H))))⟩
  · exact mm_2 (P := fun l => ¬ nI (2 + l) < (2 : Int32) <<< ((0 : Int32) &&& 31)) hl (by decide) (by decide)
  · exact mm_2 (P := fun l => nI (2 + l) < (2 : Int32) <<< (nI 1 &&& 31)) hl (by decide) (by decide)
theorem mm_m1 (x : Int32) : x + (-1) = x - 1 := by
  rw [Int32.sub_eq_add_neg]
theorem mm_42 {post : Int32 → Prop} (hN : mm_N a2) {c r : Int32} {p t : Nat} (hp : p < 12) (ht : t ≤ 11) (H : ∀ r, post r) :
    ∃ n, wX_response_42 post c fc fu a1 a2 a3 a4 a5 a6 a7 a8 n (nI p) r (nI t - 1) := by
  refine ⟨t + 1, pk_loopD (σ := Int32 × Int32) (fun n i s => wX_response_42 post c fc fu a1 a2 a3 a4 a5 a6 a7 a8 n s.1 s.2 (nI i - 1)) (fun i s => i ≤ 11 ∧ ∃ p, p < 12 ∧ s.1 = nI p) ?_ ?_ t (nI p, r) ⟨ht, p, hp, rfl⟩⟩
  · intro n s h
    exact br_t (by decide) (H _)
  · intro n i s h hw
    obtain ⟨hi, p, hp, e⟩ := h
    obtain ⟨l, hl, el⟩ := pk_andE (c >>> (nI i &&& 31)) (m := 1) 1 (by decide)
    show wX_response_42 post c fc fu a1 a2 a3 a4 a5 a6 a7 a8 (n + 1) s.1 s.2 (nI (i + 1) - 1)
    rw [nI_pred, e]
    refine br_f (nI_pos (by omega)) (nm_r el ⟨?_, nm_e (mm_after hN hp hl (fun k hk _ => nm_r (mm_m1 _) (hw (_, _) ⟨by omega, _, ?_, rfl⟩)))⟩)
    · rw [mm_x2]
      exact vp_in_nI (by omega) (by omega)
    · omega
theorem mm_cases {c : Int32} (h1 : ¬ c < 1) (h4 : c ≤ 4095) : c = 1 ∨ (∃ l, l < 2 ∧ c = nI (2 + l)) ∨ 4 ≤ c := by
  have h0 : ¬ c < 0 := by
    intro z
    exact h1 (Int32.lt_trans z (by decide))
  obtain ⟨j, hj, e⟩ := nI_of h0
  subst e
  have g1 : 1 ≤ j := by
    rcases Nat.lt_or_ge j 1 with z | z
    · exact absurd (nI_lt (b := 1) z (by omega)) h1
    · exact z
  rcases Nat.lt_or_ge j 4 with z | z
  · rcases (show j = 1 ∨ j = 2 ∨ j = 3 by omega) with e | e | e
    · exact Or.inl (by rw [e]; rfl)
    · exact Or.inr (Or.inl ⟨0, by omega, by rw [e]⟩)
    · exact Or.inr (Or.inl ⟨1, by omega, by rw [e]⟩)
  · exact Or.inr (Or.inr (nI_le z hj))
theorem mm_resp {post : Int32 → Prop} (hS : mm_S a1) (hN : mm_N a2) {m : Nat} (hm : m < 2) {c : Int32}
    (hb : (c < 1 ∨ ¬ c ≤ 4095) → post (-2)) (hg : ¬ c < 1 → c ≤ 4095 → 4 ≤ c → ∀ r, post r)
    (h1 : c = 1 → post 0) (h2 : ∀ l, l < 2 → c = nI (2 + l) → post (a3 (12 * m + l))) :
    wpX_response post (fc, fu, a1, a2, a3, a4, a5, a6, a7, a8) (nI (8 * m)) c := by
  unfold wpX_response
  dsimp only
  refine mm_place hS hm (br_t (nI_pos' (by omega)) (br_c (fun z => hb (Or.inl z)) (fun z => br_c (fun z' => ?_) (fun z' => hb (Or.inr z')))))
  rcases mm_cases z z' with e | ⟨l, hl, e⟩ | e
  · subst e
    exact mm_letters1 (nm_e ⟨1, br_t (by decide) (h1 rfl)⟩)
  · have H := h2 l hl e
    subst e
    refine mm_letters2 hl (nm_r (show nI 1 - 1 = nI 0 by decide) ⟨2, br_f (by decide) (nm_r (e' := nI l) ?_ ⟨?_, nm_e (mm_after hN (by omega) hl (fun k hk _ => nm_r (mm_m1 _) (br_t (by decide) ?_)))⟩)⟩)
    · exact mm_2 (P := fun l => nI (2 + l) >>> (nI 0 &&& 31) &&& 1 = nI l) hl (by decide) (by decide)
    · rw [mm_x2]
      exact vp_in_nI (by omega) (by omega)
    · rw [mm_x2, nI_clamp (by omega), show (4 : Int32) * 0 = 0 by decide, Int32.zero_add, show 2 * (6 * m) + l = 12 * m + l by omega]
      exact H
  · exact mm_letters (fun t ht => nm_e (mm_42 hN (by omega) ht (hg z z' e)))
theorem mm_run {post : Int32 → Prop} (hS : mm_S a1) (hN : mm_N a2) {m : Nat} (hm : m < 2) {c : Int32} (hc : c = 1 ∨ ∃ l, l < 2 ∧ c = nI (2 + l))
    (h1 : c = 1 → post 0) (h2 : ∀ l, l < 2 → c = nI (2 + l) → post (a2 (12 * m + l))) :
    wpX_run post (fc, fu, a1, a2, a3, a4, a5, a6, a7, a8) (nI (8 * m)) c := by
  unfold wpX_run
  dsimp only
  refine mm_place hS hm (br_t (nI_pos' (by omega)) ?_)
  rcases hc with e | ⟨l, hl, e⟩
  · subst e
    refine br_f (by decide) (br_t (by decide) (mm_letters1 (nm_e ⟨1, br_t (by decide) ⟨by decide, ?_⟩⟩)))
    rw [mm_r6 (by omega), show 6 * m % 6 = 0 by omega]
    exact h1 rfl
  · have H := h2 l hl e
    subst e
    refine br_f ?_ (br_t ?_ (mm_letters2 hl (nm_r (show nI 1 - 1 = nI 0 by decide) ⟨2, br_f (by decide) ?_⟩)))
    · exact mm_2 (P := fun l => ¬ nI (2 + l) < 1) hl (by decide) (by decide)
    · exact mm_2 (P := fun l => nI (2 + l) ≤ 4095) hl (by decide) (by decide)
    · rw [show nI (2 + l) >>> (nI 0 &&& 31) &&& 1 = nI l from mm_2 (P := fun l => nI (2 + l) >>> (nI 0 &&& 31) &&& 1 = nI l) hl (by decide) (by decide)]
      refine mm_after hN (by omega) hl (fun k hk ek => nm_r (mm_m1 _) (br_t (by decide) ⟨by decide, ?_⟩))
      rw [show 2 * (6 * m) + l = 12 * m + l by omega] at ek
      rw [mm_r6 (by omega), show (6 * (6 * m / 6) + k) % 6 = k by omega, ← ek]
      exact H
theorem mm_diff {post : Int32 → St2 → Prop} (hS : mm_S a1) (hN : mm_N a2) {m : Nat} (hm : m < 2) (H : ∀ s, post 0 (fc, 1, a1, a2, a3, s, a5, a6, a7, a8)) :
    wpX_difference post (fc, 0, a1, a2, a3, a4, a5, a6, a7, a8) (nI (8 * m)) (nI (8 * m)) := by
  unfold wpX_difference
  dsimp only
  refine mm_place hS hm (mm_place hS hm (br_f (nI_pos (by omega)) (br_t (nI_pos' (by omega)) (mm_refresh hN (fun s hD => ?_)))))
  show wpX_firstWord _ _ _ _
  unfold wpX_firstWord
  dsimp only
  refine ⟨?_, nm_r (e' := 0) ?_ (br_t rfl (H s))⟩
  · rw [mm_x12]
    exact vp_in_nI (by omega) (by omega)
  · rw [mm_x12, nI_clamp (by omega), show 12 * (6 * m) + 6 * m = 13 * (6 * m) by omega]
    exact hD _ (by omega) (by omega)
theorem mm_alike {post : Int32 → St2 → Prop} (hS : mm_S a1) {m : Nat} (hm : m < 2) (H : post (-1) (fc, fu, a1, a2, a3, a4, a5, a6, a7, a8)) :
    wpX_alike post (fc, fu, a1, a2, a3, a4, a5, a6, a7, a8) (nI (8 * m)) 7 := by
  unfold wpX_alike
  dsimp only
  exact mm_place hS hm (mm_place7 hS (br_f (nI_pos (by omega)) (br_f (by decide) H)))
theorem mm_43 {post : Int32 → St2 → Prop} {x3 : Int32} {m : Nat} (hm : m < 2) (z2 : ∀ j, a2 j = 0) (z3 : ∀ j, a3 j = 0)
    (H : ∀ b2 b3 : Nat → Int32, (∀ j, b2 j = 0) → (∀ j, b3 j = 0) → post x3 (fc, 0, a1, b2, b3, a4, a5, a6, a7, a8)) :
    ∃ n, wX_size_43 post (nI m) x3 fc fu n (nI (12 * m)) a1 a2 a3 a4 a5 a6 a7 a8 := by
  have e0 : 12 * nI m + 12 = nI (12 * m + 12) := mm_x12 m 12
  have hz : ∀ (s : Nat → Int32) (k : Nat), (∀ j, s j = 0) → ∀ j, upd s k 0 j = 0 := by
    intro s k h j
    by_cases e : j = k
    · rw [e, pk_us]
    · rw [pk_un e]
      exact h j
  refine pk_loop (σ := (Nat → Int32) × (Nat → Int32)) (fun n k s => wX_size_43 post (nI m) x3 fc fu n (nI k) a1 s.1 s.2 a4 a5 a6 a7 a8) (fun k s => (∀ j, s.1 j = 0) ∧ ∀ j, s.2 j = 0) (12 * m + 12) (12 * m) (a2, a3) (by omega) ⟨z2, z3⟩ ?_ ?_
  · intro n s h
    exact pk_le (12 * m + 12) (12 * m + 12) (fun _ => H s.1 s.2 h.1 h.2) (fun z => absurd z (by omega)) e0
  · intro n k s hk h hw
    exact pk_le (12 * m + 12) k (fun z => absurd z (by omega)) (fun _ => ⟨pk_in k 24 (by omega), nm_e ⟨pk_in k 24 (by omega), nm_e (nm_r (nI_1 k) (hw (_, _) ⟨hz _ _ h.1, hz _ _ h.2⟩))⟩⟩) e0
theorem mm_size {post : Int32 → St2 → Prop} {m : Nat} {x : Int32} (hm : m < 2) (z2 : ∀ j, a2 j = 0) (z3 : ∀ j, a3 j = 0)
    (Hb : (x < 1 ∨ 6 < x) → post (-2) (fc, fu, a1, a2, a3, a4, a5, a6, a7, a8))
    (Hg : ¬ x < 1 → ¬ 6 < x → ∀ b2 b3 : Nat → Int32, (∀ j, b2 j = 0) → (∀ j, b3 j = 0) → post (a1 m) (fc, 0, upd a1 m x, b2, b3, a4, a5, a6, a7, a8)) :
    wpX_size post (fc, fu, a1, a2, a3, a4, a5, a6, a7, a8) (nI m) x := by
  unfold wpX_size
  dsimp only
  refine mm_isM hm (br_f (by decide) (br_c (fun z => Hb (Or.inl z)) (fun z => br_c (fun z' => ?_) (fun z' => Hb (Or.inr (Int32.not_le.mp z'))))))
  rw [nI_clamp (show m < 2 ^ 31 by omega)]
  refine ⟨pk_in m 2 hm, nm_e ⟨pk_in m 2 hm, nm_e (nm_r (e' := nI (12 * m)) ?_ (mm_43 hm z2 z3 (Hg z (fun g => absurd z' (Int32.not_le.mpr g)))))⟩⟩
  rw [show (12 : Int32) = nI 12 from rfl, pk_mul]
theorem mm_sizeN {post : Int32 → St2 → Prop} {x0 x : Int32} (h0 : ¬ x0 = 0) (h1 : ¬ x0 = 1) (H : post (-1) (fc, fu, a1, a2, a3, a4, a5, a6, a7, a8)) :
    wpX_size post (fc, fu, a1, a2, a3, a4, a5, a6, a7, a8) x0 x := by
  unfold wpX_size
  dsimp only
  exact mm_isN h0 h1 (br_t rfl H)
theorem mm_setN {post : Int32 → St2 → Prop} {x0 x y : Int32} (h0 : ¬ x0 = 0) (h1 : ¬ x0 = 1) (H : post (-1) (fc, fu, a1, a2, a3, a4, a5, a6, a7, a8)) :
    wpX_set post (fc, fu, a1, a2, a3, a4, a5, a6, a7, a8) x0 x y := by
  unfold wpX_set
  dsimp only
  exact mm_isN h0 h1 (br_t rfl H)
theorem mm_set {post : Int32 → St2 → Prop} {m : Nat} {x y : Int32} (hm : m < 2) (hS : mm_S a1) (z2 : ∀ j, a2 j = 0) (z3 : ∀ j, a3 j = 0)
    (Ha : (x < 0 ∨ a1 m ≤ x >>> ((1 : Int32) &&& 31)) → post (-2) (fc, fu, a1, a2, a3, a4, a5, a6, a7, a8))
    (Hv : (¬ x < 0 ∧ ¬ a1 m ≤ x >>> ((1 : Int32) &&& 31)) → (y < 0 ∨ a1 m ≤ y >>> ((2 : Int32) &&& 31)) → post (-4) (fc, fu, a1, a2, a3, a4, a5, a6, a7, a8))
    (Hg : (¬ x < 0 ∧ ¬ a1 m ≤ x >>> ((1 : Int32) &&& 31)) → (¬ y < 0 ∧ ¬ a1 m ≤ y >>> ((2 : Int32) &&& 31)) → ∀ j k, j < 12 → k < 6 → x = nI j → y >>> ((2 : Int32) &&& 31) = nI k →
      post 0 (fc, 0, a1, upd a2 (12 * m + j) (y >>> ((2 : Int32) &&& 31)), upd a3 (12 * m + j) (y &&& 3), a4, a5, a6, a7, a8)) :
    wpX_set post (fc, fu, a1, a2, a3, a4, a5, a6, a7, a8) (nI m) x y := by
  obtain ⟨w, hw1, hw6, ew⟩ := hS m hm
  unfold wpX_set
  dsimp only
  rw [nI_clamp (show m < 2 ^ 31 by omega)]
  refine mm_isM hm (br_f (by decide) (br_c (fun z => Ha (Or.inl z)) (fun z => ⟨pk_in m 2 hm, br_c (fun z' => ?_) (fun z' => Ha (Or.inr (Int32.not_lt.mp z')))⟩)))
  have g1 : ¬ x < 0 ∧ ¬ a1 m ≤ x >>> ((1 : Int32) &&& 31) := ⟨z, Int32.not_le.mpr z'⟩
  refine br_c (fun y1 => Hv g1 (Or.inl y1)) (fun y1 => ⟨pk_in m 2 hm, br_c (fun y2 => ?_) (fun y2 => Hv g1 (Or.inr (Int32.not_lt.mp y2)))⟩)
  have g2 : ¬ y < 0 ∧ ¬ a1 m ≤ y >>> ((2 : Int32) &&& 31) := ⟨y1, Int32.not_le.mpr y2⟩
  obtain ⟨j, hj, ej⟩ := nI_of z
  obtain ⟨i, hi, ei⟩ := nI_of y1
  have s1 : x >>> ((1 : Int32) &&& 31) = nI (j / 2) := by
    rw [ej]
    exact pk_shrN hj _ 1 (by decide)
  have s2 : y >>> ((2 : Int32) &&& 31) = nI (i / 4) := by
    rw [ei]
    exact pk_shrN hi _ 2 (by decide)
  have j1 : j / 2 < w := by
    rw [s1, ew] at z'
    exact (nI_ltI (by omega) (by omega)).mp z'
  have i1 : i / 4 < w := by
    rw [s2, ew] at y2
    exact (nI_ltI (by omega) (by omega)).mp y2
  have G := Hg g1 g2 j (i / 4) (by omega) (by omega) ej s2
  have e0 : 12 * nI m + x = nI (12 * m + j) := by
    rw [ej, mm_x12]
  refine nm_r e0 ?_
  rw [nI_clamp (show 12 * m + j < 2 ^ 31 by omega), z2, z3]
  exact ⟨vp_in_nI (by omega) (by omega), vp_in_nI (by omega) (by omega), nm_r (e' := 0) (by decide) ⟨vp_in_nI (by omega) (by omega), nm_e ⟨vp_in_nI (by omega) (by omega), nm_e G⟩⟩⟩
end
end
section
section
variable {fc fu : Int32} {a1 a2 a3 a4 a5 a6 a7 a8 : Nat → Int32} {post : Int32 → St0 → Prop} {mc ms kc ks m : Nat} {x0 x1 x2 x3 x4 x6 x7 x8 x9 x10 x11 x12 x13 x14 : Int32}
theorem mm_354 (hS : mm_S a1) (hN : mm_N a2) (hm : m < 2) (H : post 1 ()) :
    wL_lawOf_354 post mc ms (nI (8 * m)) kc ks fc 0 a1 a2 a3 a4 a5 a6 a7 a8 := by
  unfold wL_lawOf_354
  exact mm_diff hS hN hm (fun s => br_t rfl (mm_alike hS hm (br_t rfl H)))
theorem mm_349 {y z : Int32} (hS : mm_S a1) (hN : mm_N a2) (hm : m < 2) (H : post 1 ()) (e : z = y) :
    wL_lawOf_349 post mc ms (nI (8 * m)) y z kc ks fc 0 a1 a2 a3 a4 a5 a6 a7 a8 := by
  unfold wL_lawOf_349
  exact br_t e (mm_354 hS hN hm H)
theorem mm_317 (hS : mm_S a1) (hN : mm_N a2) (hm : m < 2) (H : post 1 ()) (h1 : x4 = 1 → x14 = 0)
    (h2 : ∀ l, l < 2 → x4 = nI (2 + l) → (x14 = 0 → a2 (12 * m + l) = 0) ∧ (¬ x14 = 0 → a2 (12 * m + l) = x3 >>> ((2 : Int32) &&& 31))) :
    wL_lawOf_317 post mc ms x3 x4 x14 (nI (8 * m)) kc ks fc 0 a1 a2 a3 a4 a5 a6 a7 a8 := by
  unfold wL_lawOf_317
  refine br_c (fun _ => mm_354 hS hN hm H) (fun z => br_c (fun _ => mm_354 hS hN hm H) (fun z' => ?_))
  have hc : x4 = 1 ∨ ∃ l, l < 2 ∧ x4 = nI (2 + l) := by
    have g0 : ¬ x4 < 0 := fun g => z (Int32.le_of_lt g)
    obtain ⟨j, hj, e⟩ := nI_of g0
    subst e
    rcases (show j = 0 ∨ j = 1 ∨ j = 2 ∨ j = 3 ∨ 4 ≤ j by omega) with e | e | e | e | e
    · exact absurd (show nI j ≤ 0 by rw [e]; decide) z
    · exact Or.inl (by rw [e]; rfl)
    · exact Or.inr ⟨0, by omega, by rw [e]⟩
    · exact Or.inr ⟨1, by omega, by rw [e]⟩
    · exact absurd (nI_le (a := 4) e hj) z'
  refine mm_run hS hN hm hc (fun e => ?_) (fun l hl e => ?_)
  · exact br_t (h1 e) (mm_349 hS hN hm H rfl)
  · exact br_c (fun g => mm_349 hS hN hm H ((h2 l hl e).1 g)) (fun g => mm_349 hS hN hm H ((h2 l hl e).2 g))
theorem mm_274 {y : Int32} (hS : mm_S a1) (hN : mm_N a2) (hm : m < 2) (H : post 1 ()) (h1 : x4 = 1 → x14 = 0)
    (h2 : ∀ l, l < 2 → x4 = nI (2 + l) → (x14 = 0 → a2 (12 * m + l) = 0) ∧ (¬ x14 = 0 → a2 (12 * m + l) = x3 >>> ((2 : Int32) &&& 31)))
    (hg : x13 = 0 → x4 < 1 ∨ 4095 < x4) (hb : ¬ x13 = 0 → ¬ x4 < 1 ∧ ¬ 4095 < x4) (k1 : x4 = 1 → y = 0) (k2 : ∀ l, l < 2 → x4 = nI (2 + l) → a3 (12 * m + l) = y) :
    wL_lawOf_274 post mc ms x3 x4 x13 x14 (nI (8 * m)) y kc ks fc 0 a1 a2 a3 a4 a5 a6 a7 a8 := by
  unfold wL_lawOf_274
  have G : wL_lawOf_317 post mc ms x3 x4 x14 (nI (8 * m)) kc ks fc 0 a1 a2 a3 a4 a5 a6 a7 a8 := mm_317 hS hN hm H h1 h2
  refine mm_resp hS hN hm (fun z => ?_) (fun z z' g r => ?_) (fun e => ?_) (fun l hl e => ?_)
  · refine br_c (fun _ => br_t rfl G) (fun g => ?_)
    rcases z with z | z
    · exact absurd z (hb g).1
    · exact absurd (Int32.not_le.mp z) (hb g).2
  · refine br_c (fun e => ?_) (fun _ => br_t g G)
    rcases hg e with q | q
    · exact absurd q z
    · exact absurd z' (Int32.not_le.mpr q)
  · refine br_c (fun g => ?_) (fun _ => br_f (by rw [e]; decide) (br_t (k1 e).symm G))
    rw [e] at hg
    exact absurd (hg g) (by decide)
  · refine br_c (fun g => ?_) (fun _ => br_f ?_ (br_t (k2 l hl e) G))
    · rw [e] at hg
      exact absurd (hg g) (mm_2 (P := fun l => ¬ (nI (2 + l) < 1 ∨ 4095 < nI (2 + l))) hl (by decide) (by decide))
    · rw [e]
      exact mm_2 (P := fun l => ¬ 4 ≤ nI (2 + l)) hl (by decide) (by decide)
/-- what the two places of state 0 of machine m hold: the move, if it was made there, else 0 -/
def mm_K (m : Nat) (x2 x3 x11 : Int32) (a2 a3 : Nat → Int32) : Prop := ∀ l, l < 2 →
  ((¬ x11 = 0 ∧ x2 = nI l) → a2 (12 * m + l) = x3 >>> ((2 : Int32) &&& 31) ∧ a3 (12 * m + l) = x3 &&& 3) ∧ (¬ (¬ x11 = 0 ∧ x2 = nI l) → a2 (12 * m + l) = 0 ∧ a3 (12 * m + l) = 0)
/-- which machine is looked at -/
def mm_M (m : Nat) (x0 x6 : Int32) : Prop := (x6 = 0 ∧ m = 0) ∨ (¬ x6 = 0 ∧ x0 = nI m)
theorem mm_245 (hS : mm_S a1) (hN : mm_N a2) (hm : m < 2) (H : post 1 ()) (hM : mm_M m x0 x6) (h1 : x4 = 1 → x14 = 0)
    (h2 : ∀ l, l < 2 → x4 = nI (2 + l) → (x14 = 0 → a2 (12 * m + l) = 0 ∧ a3 (12 * m + l) = 0) ∧ (¬ x14 = 0 → a2 (12 * m + l) = x3 >>> ((2 : Int32) &&& 31) ∧ a3 (12 * m + l) = x3 &&& 3))
    (hg : x13 = 0 → x4 < 1 ∨ 4095 < x4) (hb : ¬ x13 = 0 → ¬ x4 < 1 ∧ ¬ 4095 < x4) :
    wL_lawOf_245 post mc ms x0 x3 x4 x6 x13 x14 kc ks fc 0 a1 a2 a3 a4 a5 a6 a7 a8 := by
  have h2' : ∀ l, l < 2 → x4 = nI (2 + l) → (x14 = 0 → a2 (12 * m + l) = 0) ∧ (¬ x14 = 0 → a2 (12 * m + l) = x3 >>> ((2 : Int32) &&& 31)) :=
    fun l hl e => ⟨fun g => ((h2 l hl e).1 g).1, fun g => ((h2 l hl e).2 g).1⟩
  have G : wL_lawOf_260 post mc ms x3 x4 x13 x14 (nI (8 * m)) kc ks fc 0 a1 a2 a3 a4 a5 a6 a7 a8 := by
    unfold wL_lawOf_260
    refine br_c (fun g => ?_) (fun g => ?_)
    · exact mm_274 hS hN hm H h1 h2' hg hb (fun _ => rfl) (fun l hl e => ((h2 l hl e).1 g).2)
    · exact mm_274 hS hN hm H h1 h2' hg hb (fun e => absurd (h1 e) g) (fun l hl e => ((h2 l hl e).2 g).2)
  unfold wL_lawOf_245
  rcases hM with ⟨e, e'⟩ | ⟨e, e'⟩
  · subst e'
    exact br_t e G
  · refine br_f e ?_
    rw [e', show (8 : Int32) = nI 8 from rfl, pk_mul]
    exact G
theorem mm_219 (hS : mm_S a1) (hN : mm_N a2) (hm : m < 2) (H : post 1 ()) (hM : mm_M m x0 x6) (hK : mm_K m x2 x3 x11 a2 a3) (hx : ¬ x11 = 0 → ¬ x2 < 0) (e12 : x12 = x2 &&& 1)
    (hg : x13 = 0 → x4 < 1 ∨ 4095 < x4) (hb : ¬ x13 = 0 → ¬ x4 < 1 ∧ ¬ 4095 < x4) :
    wL_lawOf_219 post mc ms x0 x2 x3 x4 x6 x11 x12 x13 kc ks fc 0 a1 a2 a3 a4 a5 a6 a7 a8 := by
  have G0 : (∀ l, l < 2 → x4 = nI (2 + l) → ¬ (¬ x11 = 0 ∧ x2 = nI l)) → wL_lawOf_244 post mc ms x0 x3 x4 x6 x13 kc ks fc 0 a1 a2 a3 a4 a5 a6 a7 a8 := by
    intro n
    unfold wL_lawOf_244
    exact mm_245 hS hN hm H hM (fun _ => rfl) (fun l hl e => ⟨fun _ => (hK l hl).2 (n l hl e), fun g => absurd rfl g⟩) hg hb
  have e1 : ∀ l, l < 2 → nI l &&& 1 = nI l := fun l hl => mm_2 (P := fun l => nI l &&& 1 = nI l) hl (by decide) (by decide)
  have e2 : ∀ l, l < 2 → 2 + nI l = nI (2 + l) := fun l hl => nI_add 2 l
  unfold wL_lawOf_219
  refine br_c (fun g => G0 (fun l hl e t => t.1 g)) (fun g => br_c (fun g2 => G0 (fun l hl e t => ?_)) (fun g2 => br_c (fun g3 => ?_) (fun g3 => G0 (fun l hl e t => ?_))))
  · rw [t.2] at g2
    exact absurd g2 (mm_2 (P := fun l => ¬ 2 ≤ nI l) hl (by decide) (by decide))
  · obtain ⟨j, hj, ej⟩ := nI_of (hx g)
    have j2 : j < 2 := by
      rcases Nat.lt_or_ge j 2 with z | z
      · exact z
      · exact absurd (show 2 ≤ x2 by rw [ej]; exact nI_le (a := 2) z hj) g2
    rw [e12, ej, e1 j j2, e2 j j2] at g3
    refine mm_245 hS hN hm H hM (fun e => ?_) (fun l hl e => ⟨fun z => absurd z (by decide), fun _ => ?_⟩) hg hb
    · rw [g3] at e
      exact absurd e (mm_2 (P := fun j => ¬ nI (2 + j) = 1) j2 (by decide) (by decide))
    · have q : 2 + j = 2 + l := (nI_eq (by omega) (by omega)).mp (g3.symm.trans e)
      have q' : j = l := by omega
      exact (hK l hl).1 ⟨g, by rw [ej, q']⟩
  · refine g3 ?_
    rw [e12, t.2, e1 l hl, e2 l hl]
    exact e
theorem mm_193 (hS : mm_S a1) (hN : mm_N a2) (hm : m < 2) (H : post 1 ()) (hM : mm_M m x0 x6) (hK : mm_K m x2 x3 x11 a2 a3) (hx : ¬ x11 = 0 → ¬ x2 < 0) :
    wL_lawOf_193 post mc ms x0 x2 x3 x4 x6 x11 kc ks fc 0 a1 a2 a3 a4 a5 a6 a7 a8 := by
  unfold wL_lawOf_193
  refine nm_e (br_c (fun z => ?_) (fun z => br_c (fun z' => ?_) (fun z' => ?_)))
  · unfold wL_lawOf_218
    exact mm_219 hS hN hm H hM hK hx rfl (fun _ => Or.inl z) (fun g => absurd rfl g)
  · unfold wL_lawOf_218
    exact mm_219 hS hN hm H hM hK hx rfl (fun _ => Or.inr z') (fun g => absurd rfl g)
  · exact mm_219 hS hN hm H hM hK hx rfl (fun g => absurd g (by decide)) (fun _ => ⟨z, z'⟩)
theorem mm_168 {y z : Int32} (hS : mm_S a1) (hN : mm_N a2) (hm : m < 2) (H : post 1 ()) (hM : mm_M m x0 x6) (e : z = y)
    (h0 : ¬ (¬ x6 = 0 ∧ ¬ x9 = 0 ∧ ¬ x10 = 0) → mm_K m x2 x3 0 a2 a3) (h1 : ¬ x6 = 0 → ¬ x9 = 0 → ¬ x10 = 0 → mm_K m x2 x3 1 a2 a3 ∧ ¬ x2 < 0) :
    wL_lawOf_168 post mc ms x0 x2 x3 x4 x6 x9 x10 y z kc ks fc 0 a1 a2 a3 a4 a5 a6 a7 a8 := by
  have G : ¬ (¬ x6 = 0 ∧ ¬ x9 = 0 ∧ ¬ x10 = 0) → wL_lawOf_192 post mc ms x0 x2 x3 x4 x6 kc ks fc 0 a1 a2 a3 a4 a5 a6 a7 a8 := by
    intro n
    unfold wL_lawOf_192
    exact mm_193 hS hN hm H hM (h0 n) (fun g => absurd rfl g)
  unfold wL_lawOf_168
  refine br_t e (br_c (fun g => G (fun t => t.1 g)) (fun g6 => br_c (fun g => G (fun t => t.2.1 g)) (fun g9 => br_c (fun g => G (fun t => t.2.2 g)) (fun g10 => ?_))))
  exact mm_193 hS hN hm H hM (h1 g6 g9 g10).1 (fun _ => (h1 g6 g9 g10).2)
/-- the machine's number and its size, before the move is set -/
def mm_Q (x0 x6 x8 : Int32) (a1 : Nat → Int32) : Prop := (x6 = 0 ∧ ¬ x0 = 0 ∧ ¬ x0 = 1) ∨ (¬ x6 = 0 ∧ ∃ m, m < 2 ∧ x0 = nI m ∧ a1 m = x8)
theorem mm_N0 (z2 : ∀ j, a2 j = 0) : mm_N a2 := fun j _ => ⟨0, by omega, z2 j⟩
theorem mm_K0 {x : Int32} (z2 : ∀ j, a2 j = 0) (z3 : ∀ j, a3 j = 0) : mm_K m x2 x3 0 a2 a3 := fun l _ => ⟨fun t => absurd rfl t.1, fun _ => ⟨z2 _, z3 _⟩⟩
theorem mm_128 (hS : mm_S a1) (z2 : ∀ j, a2 j = 0) (z3 : ∀ j, a3 j = 0) (H : post 1 ()) (hQ : mm_Q x0 x6 x8 a1)
    (h9 : x9 = 0 → x2 < 0 ∨ x8 ≤ x2 >>> ((1 : Int32) &&& 31)) (h9' : ¬ x9 = 0 → ¬ x2 < 0 ∧ ¬ x8 ≤ x2 >>> ((1 : Int32) &&& 31))
    (h10 : x10 = 0 → x3 < 0 ∨ x8 ≤ x3 >>> ((2 : Int32) &&& 31)) (h10' : ¬ x10 = 0 → ¬ x3 < 0 ∧ ¬ x8 ≤ x3 >>> ((2 : Int32) &&& 31)) :
    wL_lawOf_128 post mc ms x0 x2 x3 x4 x6 x9 x10 kc ks fc 0 a1 a2 a3 a4 a5 a6 a7 a8 := by
  unfold wL_lawOf_128
  rcases hQ with ⟨g6, n0, n1⟩ | ⟨g6, m, hm, e0, e8⟩
  · exact mm_setN n0 n1 (br_t g6 (mm_168 (m := 0) hS (mm_N0 z2) (by omega) H (Or.inl ⟨g6, rfl⟩) rfl (fun _ => mm_K0 (x := 0) z2 z3) (fun g => absurd g6 g)))
  · subst e0
    subst e8
    have hM : mm_M m (nI m) x6 := Or.inr ⟨g6, rfl⟩
    refine mm_set hm hS z2 z3 (fun z => ?_) (fun z z' => ?_) (fun z z' j k hj hk ej ek => ?_)
    · have q : x9 = 0 := by
        by_cases q : x9 = 0
        · exact q
        · rcases z with z | z
          · exact absurd z (h9' q).1
          · exact absurd z (h9' q).2
      exact br_f g6 (br_t q (mm_168 hS (mm_N0 z2) hm H hM rfl (fun _ => mm_K0 (x := 0) z2 z3) (fun _ g => absurd q g)))
    · have q : ¬ x9 = 0 := by
        intro q
        rcases h9 q with t | t
        · exact z.1 t
        · exact z.2 t
      have q' : x10 = 0 := by
        by_cases q' : x10 = 0
        · exact q'
        · rcases z' with t | t
          · exact absurd t (h10' q').1
          · exact absurd t (h10' q').2
      exact br_f g6 (br_f q (br_t q' (mm_168 hS (mm_N0 z2) hm H hM rfl (fun _ => mm_K0 (x := 0) z2 z3) (fun _ _ g => absurd q' g))))
    · have q : ¬ x9 = 0 := by
        intro q
        rcases h9 q with t | t
        · exact z.1 t
        · exact z.2 t
      have q' : ¬ x10 = 0 := by
        intro q'
        rcases h10 q' with t | t
        · exact z'.1 t
        · exact z'.2 t
      have hN : mm_N (upd a2 (12 * m + j) (x3 >>> ((2 : Int32) &&& 31))) := by
        intro i hi
        by_cases e : i = 12 * m + j
        · rw [e, pk_us]
          exact ⟨k, hk, ek⟩
        · rw [pk_un e]
          exact ⟨0, by omega, z2 i⟩
      refine br_f g6 (br_f q (br_f q' (mm_168 hS hN hm H hM rfl (fun n => absurd ⟨g6, q, q'⟩ n) (fun _ _ _ => ⟨fun l hl => ⟨fun t => ?_, fun t => ?_⟩, z.1⟩))))
      · have jl : j = l := (nI_eq (by omega) (by omega)).mp (ej.symm.trans t.2)
        subst jl
        exact ⟨pk_us, pk_us⟩
      · have jl : 12 * m + l ≠ 12 * m + j := by
          intro e
          have e' : j = l := by omega
          exact t ⟨by decide, by rw [ej, e']⟩
        rw [pk_un jl, pk_un jl]
        exact ⟨z2 _, z3 _⟩
theorem mm_109 (hS : mm_S a1) (z2 : ∀ j, a2 j = 0) (z3 : ∀ j, a3 j = 0) (H : post 1 ()) (hQ : mm_Q x0 x6 x8 a1)
    (h9 : x9 = 0 → x2 < 0 ∨ x8 ≤ x2 >>> ((1 : Int32) &&& 31)) (h9' : ¬ x9 = 0 → ¬ x2 < 0 ∧ ¬ x8 ≤ x2 >>> ((1 : Int32) &&& 31)) :
    wL_lawOf_109 post mc ms x0 x2 x3 x4 x6 x8 x9 kc ks fc 0 a1 a2 a3 a4 a5 a6 a7 a8 := by
  unfold wL_lawOf_109
  refine br_c (fun z => ?_) (fun z => br_c (fun z' => ?_) (fun z' => ?_))
  · unfold wL_lawOf_127
    exact mm_128 hS z2 z3 H hQ h9 h9' (fun _ => Or.inl z) (fun g => absurd rfl g)
  · unfold wL_lawOf_127
    exact mm_128 hS z2 z3 H hQ h9 h9' (fun _ => Or.inr z') (fun g => absurd rfl g)
  · exact mm_128 hS z2 z3 H hQ h9 h9' (fun g => absurd g (by decide)) (fun _ => ⟨z, z'⟩)
theorem mm_90 (hS : mm_S a1) (z2 : ∀ j, a2 j = 0) (z3 : ∀ j, a3 j = 0) (H : post 1 ()) (hQ : mm_Q x0 x6 x8 a1) :
    wL_lawOf_90 post mc ms x0 x2 x3 x4 x6 x8 kc ks fc 0 a1 a2 a3 a4 a5 a6 a7 a8 := by
  unfold wL_lawOf_90
  refine br_c (fun z => ?_) (fun z => br_c (fun z' => ?_) (fun z' => ?_))
  · unfold wL_lawOf_108
    exact mm_109 hS z2 z3 H hQ (fun _ => Or.inl z) (fun g => absurd rfl g)
  · unfold wL_lawOf_108
    exact mm_109 hS z2 z3 H hQ (fun _ => Or.inr z') (fun g => absurd rfl g)
  · exact mm_109 hS z2 z3 H hQ (fun g => absurd g (by decide)) (fun _ => ⟨z, z'⟩)
theorem mm_70 {y z : Int32} (hS : mm_S a1) (z2 : ∀ j, a2 j = 0) (z3 : ∀ j, a3 j = 0) (H : post 1 ()) (e : z = y)
    (h0 : (x6 = 0 ∨ x7 = 0) → mm_Q x0 x6 1 a1) (h1 : ¬ x6 = 0 → ¬ x7 = 0 → mm_Q x0 x6 x1 a1) :
    wL_lawOf_70 post mc ms x0 x1 x2 x3 x4 x6 x7 y z kc ks fc 0 a1 a2 a3 a4 a5 a6 a7 a8 := by
  unfold wL_lawOf_70
  refine br_t e (br_c (fun g => ?_) (fun g => br_c (fun g' => ?_) (fun g' => ?_)))
  · unfold wL_lawOf_89
    exact mm_90 hS z2 z3 H (h0 (Or.inl g))
  · unfold wL_lawOf_89
    exact mm_90 hS z2 z3 H (h0 (Or.inr g'))
  · exact mm_90 hS z2 z3 H (h1 g g')
/-- the machine's number, at the start -/
def mm_P (x0 x6 : Int32) : Prop := (x6 = 0 ∧ ¬ x0 = 0 ∧ ¬ x0 = 1) ∨ (¬ x6 = 0 ∧ ∃ m, m < 2 ∧ x0 = nI m)
theorem mm_41 (h1 : ∀ i, i < 2 → a1 i = 1) (z2 : ∀ j, a2 j = 0) (z3 : ∀ j, a3 j = 0) (H : post 1 ()) (hP : mm_P x0 x6)
    (h7 : x7 = 0 → x1 < 1 ∨ 6 < x1) (h7' : ¬ x7 = 0 → ¬ x1 < 1 ∧ ¬ 6 < x1) :
    wL_lawOf_41 post mc ms x0 x1 x2 x3 x4 x6 x7 kc ks fc 0 a1 a2 a3 a4 a5 a6 a7 a8 := by
  have hS : mm_S a1 := fun i hi => ⟨1, by omega, by omega, h1 i hi⟩
  unfold wL_lawOf_41
  rcases hP with ⟨g6, n0, n1⟩ | ⟨g6, m, hm, e0⟩
  · exact mm_sizeN n0 n1 (br_t g6 (mm_70 hS z2 z3 H rfl (fun _ => Or.inl ⟨g6, n0, n1⟩) (fun g => absurd g6 g)))
  · subst e0
    refine mm_size hm z2 z3 (fun z => ?_) (fun z z' b2 b3 y2 y3 => ?_)
    · have q : x7 = 0 := by
        by_cases q : x7 = 0
        · exact q
        · rcases z with z | z
          · exact absurd z (h7' q).1
          · exact absurd z (h7' q).2
      exact br_f g6 (br_t q (mm_70 hS z2 z3 H rfl (fun _ => Or.inr ⟨g6, m, hm, rfl, h1 m hm⟩) (fun _ g => absurd q g)))
    · have q : ¬ x7 = 0 := by
        intro q
        rcases h7 q with t | t
        · exact z t
        · exact z' t
      have hS' : mm_S (upd a1 m x1) := by
        have g0 : ¬ x1 < 0 := fun g => z (Int32.lt_trans g (by decide))
        obtain ⟨j, hj, ej⟩ := nI_of g0
        intro i hi
        by_cases e : i = m
        · rw [e, pk_us]
          refine ⟨j, ?_, ?_, ej⟩
          · rcases Nat.lt_or_ge j 1 with t | t
            · exact absurd (show x1 < 1 by rw [ej]; exact nI_lt (b := 1) t (by omega)) z
            · exact t
          · rcases Nat.lt_or_ge 6 j with t | t
            · exact absurd (show 6 < x1 by rw [ej]; exact nI_lt (a := 6) t hj) z'
            · exact t
        · rw [pk_un e]
          exact hS i hi
      refine br_f g6 (br_f q (mm_70 hS' y2 y3 H (h1 m hm) (fun t => ?_) (fun _ _ => Or.inr ⟨g6, m, hm, rfl, pk_us⟩)))
      rcases t with t | t
      · exact absurd t g6
      · exact absurd t q
theorem mm_23 (h1 : ∀ i, i < 2 → a1 i = 1) (z2 : ∀ j, a2 j = 0) (z3 : ∀ j, a3 j = 0) (H : post 1 ()) (hP : mm_P x0 x6) :
    wL_lawOf_23 post mc ms x0 x1 x2 x3 x4 x6 kc ks fc 0 a1 a2 a3 a4 a5 a6 a7 a8 := by
  unfold wL_lawOf_23
  refine br_c (fun z => ?_) (fun z => br_c (fun z' => ?_) (fun z' => ?_))
  · unfold wL_lawOf_40
    exact mm_41 h1 z2 z3 H hP (fun _ => Or.inl z) (fun g => absurd rfl g)
  · unfold wL_lawOf_40
    exact mm_41 h1 z2 z3 H hP (fun _ => Or.inr z') (fun g => absurd rfl g)
  · exact mm_41 h1 z2 z3 H hP (fun g => absurd g (by decide)) (fun _ => ⟨z, z'⟩)
theorem mm_lawOf (H : post 1 ()) : wpL_lawOf post 100 1000 () x0 x1 x2 x3 x4 := by
  have h1 : ∀ i, i < 2 → upd (upd (fun _ => (0 : Int32)) 0 1) 1 1 i = 1 := fun i hi =>
    mm_2 (P := fun i => upd (upd (fun _ => (0 : Int32)) 0 1) 1 1 i = 1) hi (by decide) (by decide)
  unfold wpL_lawOf
  refine ⟨by omega, by omega, 50, 500, by omega, by omega, ?_⟩
  unfold wpX_init
  dsimp only
  refine ⟨by omega, by omega, by omega, by omega, by omega, by omega, by omega, by omega, by omega, by omega, by omega, by omega, by omega, by omega, by omega, by omega, nm_e (nm_e ?_)⟩
  refine br_c (fun g => ?_) (fun g => br_c (fun g' => ?_) (fun g' => ?_))
  · unfold wL_lawOf_18
    exact mm_23 h1 (fun _ => rfl) (fun _ => rfl) H (Or.inr ⟨by decide, 0, by omega, g⟩)
  · unfold wL_lawOf_18
    exact mm_23 h1 (fun _ => rfl) (fun _ => rfl) H (Or.inr ⟨by decide, 1, by omega, g'⟩)
  · exact mm_23 h1 (fun _ => rfl) (fun _ => rfl) H (Or.inl ⟨rfl, g, g'⟩)
end
theorem mm_cell {post : Int32 → Prop} {L : Nat} {xs : Nat → Int32} (hL : L ≤ 5) (k : Nat) (hk : k < 5) (H : ∀ r, post r) : wpL_cellAt post L xs () (nI k) := by
  unfold wpL_cellAt
  exact pk_le L k (fun _ => H _) (fun z => ⟨pk_in k L z, H _⟩)
end
section
theorem i_vc (xs : Nat → Int32) (L : Nat) (hL : L ≤ 5) : wpL_law (fun r => r = 1) L xs := by
  unfold wpL_law
  exact mm_cell hL 0 (by omega) (fun r1 => mm_cell hL 1 (by omega) (fun r2 => mm_cell hL 2 (by omega) (fun r3 => mm_cell hL 3 (by omega) (fun r4 => mm_cell hL 4 (by omega) (fun r5 => ⟨100, 1000, by omega, by omega, mm_lawOf rfl⟩)))))
end
