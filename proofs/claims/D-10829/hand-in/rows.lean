section
/-- the picture: filter i holds the one fingerprint p iff b i; nothing is pushed, no run goes on -/
def qf_K (b : Nat → Bool) (p : Nat) (a1 a2 a3 a4 a5 a6 : Nat → Int32) : Prop :=
  (∀ i, i < 2 → a1 i = 3) ∧ (∀ i, i < 2 → a2 i = if b i = true then 1 else 0) ∧ (∀ i, i < 2 → b i = true → a3 (64 * i + p / 32) = nI (p % 32)) ∧
  (∀ i, i < 2 → ∀ s, s < 8 → a4 (64 * i + s) = if b i = true ∧ s = p / 32 then 1 else 0) ∧ (∀ i, i < 2 → ∀ s, s < 8 → a5 (64 * i + s) = 0) ∧ (∀ i, i < 2 → ∀ s, s < 8 → a6 (64 * i + s) = 0)
theorem qf_b64 : ∀ i, i < 2 → 64 * nI i = nI (64 * i) := by decide +kernel
theorem qf_ix {i s : Nat} (hi : i < 2) : 64 * nI i + nI s = nI (64 * i + s) := by
  rw [qf_b64 i hi, nI_add]
theorem qf_cl {i s : Nat} (hi : i < 2) (hs : s < 8) : (64 * nI i + nI s).toNatClampNeg = 64 * i + s := by
  rw [qf_ix hi]
  exact nI_clamp (by omega)
theorem qf_in {i s : Nat} (hi : i < 2) (hs : s < 8) : vp_in (64 * nI i + nI s) 128 := by
  rw [qf_ix hi]
  exact vp_in_nI (by omega) (by omega)
theorem qf_ci {i : Nat} (hi : i < 2) : (nI i).toNatClampNeg = i := nI_clamp (by omega)
theorem qf_in2 {i : Nat} (hi : i < 2) : vp_in (nI i) 2 := vp_in_nI hi (by omega)
theorem qf_afT : ∀ s, s < 8 → (nI s + 1) &&& (((1 : Int32) <<< ((3 : Int32) &&& 31)) - 1) = nI ((s + 1) % 8) := by decide +kernel
theorem qf_beT : ∀ s, s < 8 → (nI s - 1) &&& (((1 : Int32) <<< ((3 : Int32) &&& 31)) - 1) = nI ((s + 7) % 8) := by decide +kernel
theorem qf_slT : ∀ q, q < 256 → nI q >>> ((8 - (3 : Int32)) &&& 31) = nI (q / 32) := by decide +kernel
theorem qf_loT : ∀ q, q < 256 → nI q &&& (((1 : Int32) <<< ((8 - (3 : Int32)) &&& 31)) - 1) = nI (q % 32) := by decide +kernel
theorem qf_byT : ∀ w, w < 32 → (nI w).toInt8.toInt32 = nI w := by decide +kernel
theorem qf_rdT : ∀ q, q < 256 → ((nI (q / 32) <<< ((8 - (3 : Int32)) &&& 31)) ||| nI (q % 32)).toInt16.toInt32 = nI q := by decide +kernel
theorem qf_pr (x : Int32) : ∃ q, q < 256 ∧ ((x * (-1640531535)).toUInt32 >>> ((24 : Int32).toUInt32 &&& Int32.toUInt32 31)).toInt32 = nI q := by
  have h := pk_ushr (x * (-1640531535)) 24 24 (by decide)
  have hb : (x * (-1640531535)).toBitVec.toNat < 2 ^ 32 := (x * (-1640531535)).toBitVec.isLt
  refine ⟨(x * (-1640531535)).toBitVec.toNat / 2 ^ 24, by omega, ?_⟩
  have hq : (x * (-1640531535)).toBitVec.toNat / 2 ^ 24 < 2 ^ 32 := by omega
  have h2 := pk_tn hq
  exact Int32.toBitVec_inj.mp (BitVec.eq_of_toNat_eq (h.trans h2.symm))
section
variable {rc : Int32} {a1 a2 a3 a4 a5 a6 a7 : Nat → Int32} {b : Nat → Bool} {p i s q : Nat} {post : Int32 → Prop}
theorem qf_after (hi : i < 2) (hs : s < 8) (h1 : a1 i = 3) (H : post (nI ((s + 1) % 8))) : wpX_after post (rc, a1, a2, a3, a4, a5, a6, a7) (nI i) (nI s) := by
  unfold wpX_after wpX_slots
  refine ⟨qf_in2 hi, ?_⟩
  rw [qf_ci hi, h1]
  dsimp only
  rw [qf_afT s hs]
  exact H
theorem qf_before (hi : i < 2) (hs : s < 8) (h1 : a1 i = 3) (H : post (nI ((s + 7) % 8))) : wpX_beforeSlot post (rc, a1, a2, a3, a4, a5, a6, a7) (nI i) (nI s) := by
  unfold wpX_beforeSlot wpX_slots
  refine ⟨qf_in2 hi, ?_⟩
  rw [qf_ci hi, h1]
  dsimp only
  rw [qf_beT s hs]
  exact H
theorem qf_slotOf (hi : i < 2) (hq : q < 256) (h1 : a1 i = 3) (H : post (nI (q / 32))) : wpX_slotOf post (rc, a1, a2, a3, a4, a5, a6, a7) (nI i) (nI q) := by
  unfold wpX_slotOf
  refine ⟨qf_in2 hi, ?_⟩
  rw [qf_ci hi, h1, qf_slT q hq]
  exact H
theorem qf_lowerOf (hi : i < 2) (hq : q < 256) (h1 : a1 i = 3) (H : post (nI (q % 32))) : wpX_lowerOf post (rc, a1, a2, a3, a4, a5, a6, a7) (nI i) (nI q) := by
  unfold wpX_lowerOf
  refine ⟨qf_in2 hi, ?_⟩
  rw [qf_ci hi, h1, qf_loT q hq]
  exact H
theorem qf_holds0 (hi : i < 2) (hs : s < 8) (h4 : a4 (64 * i + s) = 0) (h5 : a5 (64 * i + s) = 0) (h6 : a6 (64 * i + s) = 0) (H : post 0) : wpX_holds post (rc, a1, a2, a3, a4, a5, a6, a7) (nI i) (nI s) := by
  unfold wpX_holds wpX_base
  refine nm_e ?_
  rw [qf_cl hi hs]
  exact ⟨qf_in hi hs, br_t h4 ⟨qf_in hi hs, br_t h5 ⟨qf_in hi hs, br_t h6 H⟩⟩⟩
theorem qf_holds1 (hi : i < 2) (hs : s < 8) (h4 : ¬ a4 (64 * i + s) = 0) (H : post 1) : wpX_holds post (rc, a1, a2, a3, a4, a5, a6, a7) (nI i) (nI s) := by
  unfold wpX_holds wpX_base
  refine nm_e ?_
  rw [qf_cl hi hs]
  exact ⟨qf_in hi hs, br_f h4 H⟩
theorem qf_isFree (k : qf_K b p a1 a2 a3 a4 a5 a6) (hi : i < 2) (hs : s < 8) (H : post (if b i = true ∧ s = p / 32 then 0 else 1)) : wpX_isFree post (rc, a1, a2, a3, a4, a5, a6, a7) (nI i) (nI s) := by
  obtain ⟨k1, k2, k3, k4, k5, k6⟩ := k
  unfold wpX_isFree
  by_cases c : b i = true ∧ s = p / 32
  · rw [if_pos c] at H
    exact qf_holds1 hi hs (by rw [k4 i hi s hs, if_pos c]; decide) (br_f (by decide) H)
  · rw [if_neg c] at H
    exact qf_holds0 hi hs (by rw [k4 i hi s hs, if_neg c]) (k5 i hi s hs) (k6 i hi s hs) (br_t rfl H)
theorem qf_isFilter (hi : i < 2) (H : post 1) : wpX_isFilter post (rc, a1, a2, a3, a4, a5, a6, a7) (nI i) := by
  unfold wpX_isFilter
  by_cases e : i = 0
  · subst e
    exact br_t rfl H
  · have e1 : i = 1 := by omega
    subst e1
    exact br_f (by decide) (br_t rfl H)
theorem qf_isFilterN {g : Int32} (g0 : ¬ g = 0) (g1 : ¬ g = 1) (H : post 0) : wpX_isFilter post (rc, a1, a2, a3, a4, a5, a6, a7) g := by
  unfold wpX_isFilter
  exact br_f g0 (br_f g1 H)
theorem qf_runStart (hi : i < 2) (hs : s < 8) (h6 : a6 (64 * i + s) = 0) (H : post (nI s)) : wpX_runStart post (rc, a1, a2, a3, a4, a5, a6, a7) (nI i) (nI s) := by
  unfold wpX_runStart wpX_base
  exact ⟨0 + 1, qf_in hi hs, br_t (by rw [qf_cl hi hs]; exact h6) ⟨0 + 1, br_t rfl H⟩⟩
end
end
section
section
variable {rc : Int32} {a1 a2 a3 a4 a5 a6 a7 : Nat → Int32} {b : Nat → Bool} {p i s q : Nat}
theorem qf_timesOf {post : Int32 → Prop} (k : qf_K b p a1 a2 a3 a4 a5 a6) (hp : p < 256) (hi : i < 2) (hq : q < 256) (H : post (if b i = true ∧ q = p then 1 else 0)) : wpX_timesOf post (rc, a1, a2, a3, a4, a5, a6, a7) (nI i) (nI q) := by
  obtain ⟨k1, k2, k3, k4, k5, k6⟩ := k
  have hs : q / 32 < 8 := by omega
  have hs1 : (q / 32 + 1) % 8 < 8 := by omega
  unfold wpX_timesOf
  refine qf_slotOf hi hq (k1 i hi) (qf_lowerOf hi hq (k1 i hi) ?_)
  unfold wpX_base
  refine ⟨qf_in hi hs, ?_⟩
  rw [qf_cl hi hs]
  by_cases c : b i = true ∧ q / 32 = p / 32
  · refine br_f (by rw [k4 i hi _ hs, if_pos c]; decide) (qf_runStart hi hs (k6 i hi _ hs) ⟨0 + 1 + 1, br_f (by decide) ?_⟩)
    have T : ∀ r : Int32, post r → wX_timesOf_72 post (wX_timesOf_46 post (nI i) (nI (q % 32)) rc a1 a2 a3 a4 a5 a6 a7 (0 + 1)) (nI i) (nI (q % 32)) (nI (q / 32)) r rc a1 a2 a3 a4 a5 a6 a7 := by
      intro r hr
      unfold wX_timesOf_72
      refine qf_after hi hs (k1 i hi) ?_
      unfold wpX_base
      exact ⟨qf_in hi hs1, nm_r (by rw [qf_cl hi hs1]; exact k5 i hi _ hs1) (br_t rfl hr)⟩
    unfold wpX_base
    refine ⟨qf_in hi hs, ?_⟩
    rw [qf_cl hi hs]
    have h3 : a3 (64 * i + q / 32) = nI (p % 32) := by rw [c.2]; exact k3 i hi c.1
    by_cases e : q = p
    · rw [if_pos ⟨c.1, e⟩] at H
      exact br_t (by rw [h3, e]) (nm_r (by decide) (T 1 H))
    · rw [if_neg (fun z => e z.2)] at H
      exact br_f (by rw [h3, nI_eq (by omega) (by omega)]; omega) (T 0 H)
  · rw [if_neg (fun z => c ⟨z.1, by rw [z.2]⟩)] at H
    exact br_t (by rw [k4 i hi _ hs, if_neg c]) H
/-- a fingerprint into an empty filter -/
theorem qf_insert {post : St2 → Prop} (k : qf_K b p a1 a2 a3 a4 a5 a6) (hp : p < 256) (hi : i < 2) (hb : ¬ b i = true)
    (H : ∀ a2' a3' a4', qf_K (fun j => b j || decide (j = i)) p a1 a2' a3' a4' a5 a6 → post (rc, a1, a2', a3', a4', a5, a6, a7)) : wpX_insert post (rc, a1, a2, a3, a4, a5, a6, a7) (nI i) (nI p) := by
  obtain ⟨k1, k2, k3, k4, k5, k6⟩ := k
  have hs : p / 32 < 8 := by omega
  unfold wpX_insert wpX_base
  refine qf_slotOf hi hp (k1 i hi) (qf_lowerOf hi hp (k1 i hi) ⟨qf_in2 hi, qf_in2 hi, ?_⟩)
  rw [qf_ci hi, k2 i hi, if_neg hb, qf_cl hi hs]
  refine nm_e ?_
  unfold wpX_isFree
  refine qf_holds0 hi hs (by rw [k4 i hi _ hs, if_neg (fun z => hb z.1)]) (k5 i hi _ hs) (k6 i hi _ hs) (br_t rfl (br_f (by decide) ⟨qf_in hi hs, nm_e ⟨qf_in hi hs, nm_e ?_⟩⟩))
  rw [qf_byT _ (by omega)]
  refine H _ _ _ ⟨k1, fun j hj => ?_, fun j hj hbj => ?_, fun j hj t ht => ?_, k5, k6⟩
  · by_cases e : j = i
    · rw [e, pk_us, if_pos (by simp)]
      decide
    · rw [pk_un e, k2 j hj]
      simp [e]
  · by_cases e : j = i
    · rw [e, pk_us]
    · rw [pk_un (by omega)]
      exact k3 j hj (by simpa [e] using hbj)
  · by_cases e : j = i
    · by_cases et : t = p / 32
      · rw [e, et, pk_us, if_pos (by simp)]
      · rw [e, pk_un (by omega), k4 i hi t ht, if_neg (fun z => et z.2), if_neg (fun z => et z.2)]
    · rw [pk_un (by omega), k4 j hj t ht]
      simp [e]
/-- the one fingerprint is read at its slot -/
theorem qf_readStretch {post : Int32 → St2 → Prop} (k : qf_K b p a1 a2 a3 a4 a5 a6) (hp : p < 256) (hi : i < 2) (hb : b i = true)
    (H : post (nI ((p / 32 + 1) % 8)) (1, a1, a2, a3, a4, a5, a6, upd a7 0 (nI p))) : wpX_readStretch post (rc, a1, a2, a3, a4, a5, a6, a7) (nI i) (nI (p / 32)) 0 := by
  have hk := k
  obtain ⟨k1, k2, k3, k4, k5, k6⟩ := k
  have hs : p / 32 < 8 := by omega
  have hs1 : (p / 32 + 1) % 8 < 8 := by omega
  unfold wpX_readStretch wpX_base
  refine ⟨0 + 1 + 1, ?_⟩
  rw [wX_readStretch_18]
  refine qf_isFree hk hi hs ?_
  rw [if_pos ⟨hb, rfl⟩]
  refine br_t rfl ⟨qf_in hi hs, br_t (by rw [qf_cl hi hs]; exact k6 i hi _ hs) ?_⟩
  unfold wX_readStretch_95
  refine ⟨qf_in2 hi, qf_in hi hs, vp_in_nI (n := 0) (by omega) (by omega), ?_⟩
  rw [qf_ci hi, k1 i hi, qf_cl hi hs, k3 i hi hb, qf_rdT p hp]
  refine nm_e (nm_r (show (0 : Int32) + 1 = 1 by decide) (qf_after hi hs (k1 i hi) ?_))
  rw [wX_readStretch_18]
  refine qf_isFree hk hi hs1 ?_
  rw [if_neg (by omega)]
  exact br_f (by decide) H
theorem qf_free {post : St2 → Prop} (hi : i < 2) (hs : s < 8) (H : ∀ a4' a5' a6', post (rc, a1, a2, a3, a4', a5', a6', a7)) : wpX_free post (rc, a1, a2, a3, a4, a5, a6, a7) (nI i) (nI s) := by
  unfold wpX_free wpX_base
  exact nm_e ⟨qf_in hi hs, fun x _ => ⟨qf_in hi hs, fun y _ => ⟨qf_in hi hs, fun z _ => H x y z⟩⟩⟩
/-- readAll's ring: nothing left to read -/
theorem qf_29d {post : St2 → Prop} {fr : Nat} (k : qf_K b p a1 a2 a3 a4 a5 a6) (hi : i < 2) (hf : fr < 8) (H : post (rc, a1, a2, a3, a4, a5, a6, a7)) :
    ∀ d s n, s < 8 → (fr + 8 - s) % 8 = d → d < n → (∀ j, j < d → ¬ (b i = true ∧ (s + j) % 8 = p / 32)) → wX_readAll_29 post (nI i) (nI fr) n (nI s) rc a1 a2 a3 a4 a5 a6 a7 := by
  intro d
  induction d with
  | zero =>
    intro s n hs hd hn hj
    obtain ⟨m, rfl⟩ : ∃ m, n = m + 1 := ⟨n - 1, by omega⟩
    have e : s = fr := by omega
    exact br_t (by rw [e]) H
  | succ d ih =>
    intro s n hs hd hn hj
    obtain ⟨m, rfl⟩ : ∃ m, n = m + 1 := ⟨n - 1, by omega⟩
    have e : ¬ s = fr := by omega
    have h0 := hj 0 (by omega)
    rw [show (s + 0) % 8 = s by omega] at h0
    refine br_f (by rw [nI_eq (by omega) (by omega)]; exact e) (qf_isFree k hi hs ?_)
    rw [if_neg h0]
    refine br_f (by decide) (qf_after hi hs (k.1 i hi) (ih _ m (by omega) (by omega) (by omega) (fun j hjd => ?_)))
    have h1 := hj (j + 1) (by omega)
    rw [show ((s + 1) % 8 + j) % 8 = (s + (j + 1)) % 8 by omega]
    exact h1
/-- readAll's ring: the fingerprint lies ahead -/
theorem qf_29r {post : St2 → Prop} {fr : Nat} (k : qf_K b p a1 a2 a3 a4 a5 a6) (hp : p < 256) (hi : i < 2) (hb : b i = true) (hf : fr < 8) (H : post (1, a1, a2, a3, a4, a5, a6, upd a7 0 (nI p))) :
    ∀ d s n, s < 8 → (fr + 8 - s) % 8 = d → d < n → (∃ j, j < d ∧ (s + j) % 8 = p / 32) → wX_readAll_29 post (nI i) (nI fr) n (nI s) 0 a1 a2 a3 a4 a5 a6 a7 := by
  intro d
  induction d with
  | zero =>
    intro s n hs hd hn hj
    obtain ⟨j, hj, _⟩ := hj
    exact absurd hj (by omega)
  | succ d ih =>
    intro s n hs hd hn hj
    obtain ⟨m, rfl⟩ : ∃ m, n = m + 1 := ⟨n - 1, by omega⟩
    have e : ¬ s = fr := by omega
    refine br_f (by rw [nI_eq (by omega) (by omega)]; exact e) (qf_isFree k hi hs ?_)
    by_cases es : s = p / 32
    · rw [if_pos ⟨hb, es⟩]
      rw [es]
      refine br_t rfl (qf_readStretch k hp hi hb ?_)
      exact qf_29d k hi hf H d _ m (by omega) (by omega) (by omega) (fun j hjd z => by omega)
    · rw [if_neg (fun z => es z.2)]
      refine br_f (by decide) (qf_after hi hs (k.1 i hi) (ih _ m (by omega) (by omega) (by omega) ?_))
      obtain ⟨j, hj, hjt⟩ := hj
      exact ⟨j - 1, by omega, by omega⟩
theorem qf_readAll {post : St2 → Prop} (k : qf_K b p a1 a2 a3 a4 a5 a6) (hp : p < 256) (hi : i < 2) (H1 : b i = true → post (1, a1, a2, a3, a4, a5, a6, upd a7 0 (nI p))) (H0 : ¬ b i = true → post (0, a1, a2, a3, a4, a5, a6, a7)) :
    wpX_readAll post (rc, a1, a2, a3, a4, a5, a6, a7) (nI i) := by
  unfold wpX_readAll
  by_cases hb : b i = true
  · by_cases e : 0 = p / 32
    · refine ⟨0 + 1 + 1, ?_⟩
      rw [wX_readAll_7]
      refine qf_isFree (s := 0) k hi (by omega) ?_
      rw [if_pos ⟨hb, e⟩]
      refine br_t rfl (nm_r (show (0 : Int32) + 1 = nI 1 by decide) ?_)
      rw [wX_readAll_7]
      refine qf_isFree k hi (by omega) ?_
      rw [if_neg (fun z => by omega)]
      exact br_f (by decide) (qf_after hi (by omega) (k.1 i hi) ⟨8, qf_29r (fr := 1) k hp hi hb (by omega) (H1 hb) 7 _ 8 (by omega) (by omega) (by omega) ⟨6, by omega, by omega⟩⟩)
    · refine ⟨0 + 1, ?_⟩
      rw [wX_readAll_7]
      refine qf_isFree (s := 0) k hi (by omega) ?_
      rw [if_neg (fun z => e z.2)]
      exact br_f (by decide) (qf_after (s := 0) hi (by omega) (k.1 i hi) ⟨8, qf_29r (fr := 0) k hp hi hb (by omega) (H1 hb) 7 _ 8 (by omega) (by omega) (by omega) ⟨p / 32 - 1, by omega, by omega⟩⟩)
  · refine ⟨0 + 1, ?_⟩
    rw [wX_readAll_7]
    refine qf_isFree (s := 0) k hi (by omega) ?_
    rw [if_neg (fun z => hb z.1)]
    exact br_f (by decide) (qf_after (s := 0) hi (by omega) (k.1 i hi) ⟨8, qf_29d (fr := 0) k hi (by omega) (H0 hb) 7 _ 8 (by omega) (by omega) (by omega) (fun j _ z => hb z.1)⟩)
theorem qf_takeOut {post : St2 → Prop} (k : qf_K b p a1 a2 a3 a4 a5 a6) (hp : p < 256) (hi : i < 2) (hb : b i = true) (H : ∀ u, post u) : wpX_takeOut post (rc, a1, a2, a3, a4, a5, a6, a7) (nI i) (nI p) := by
  have hs : p / 32 < 8 := by omega
  have hs7 : (p / 32 + 7) % 8 < 8 := by omega
  unfold wpX_takeOut
  refine qf_slotOf hi hp (k.1 i hi) ⟨0 + 1 + 1, ?_⟩
  rw [wX_takeOut_10]
  refine qf_isFree k hi hs ?_
  rw [if_pos ⟨hb, rfl⟩]
  refine br_t rfl (qf_before hi hs (k.1 i hi) ?_)
  rw [wX_takeOut_10]
  refine qf_isFree k hi hs7 ?_
  rw [if_neg (by omega)]
  refine br_f (by decide) (qf_after hi hs7 (k.1 i hi) ?_)
  rw [show ((p / 32 + 7) % 8 + 1) % 8 = p / 32 by omega]
  refine qf_readStretch k hp hi hb ⟨0 + 1 + 1, br_f (by rw [nI_eq (by omega) (by omega)]; omega) (qf_free hi hs (fun a4' a5' a6' => ?_))⟩
  refine qf_after hi hs (k.1 i hi) (br_t rfl ⟨qf_in2 hi, qf_in2 hi, nm_e ⟨0 + 1 + 1, ?_⟩⟩)
  exact br_f (by decide) (br_t rfl ⟨vp_in_nI (n := 0) (by omega) (by omega), br_t pk_us (nm_r (show (0 : Int32) + 1 = 1 by decide) (br_t (by decide) (H _)))⟩)
end
end
section
section
variable {rc : Int32} {a1 a2 a3 a4 a5 a6 a7 : Nat → Int32} {b : Nat → Bool} {p i s q : Nat}
theorem qf_remove {post : Int32 → St2 → Prop} {y : Int32} (k : qf_K b p a1 a2 a3 a4 a5 a6) (hp : p < 256) (hi : i < 2) (hq : q < 256)
    (hy : ((y * (-1640531535)).toUInt32 >>> ((24 : Int32).toUInt32 &&& Int32.toUInt32 31)).toInt32 = nI q)
    (H1 : b i = true ∧ q = p → ∀ u, post 0 u) (H0 : ¬ (b i = true ∧ q = p) → ∀ u, post (-3) u) : wpX_remove post (rc, a1, a2, a3, a4, a5, a6, a7) (nI i) y := by
  unfold wpX_remove
  refine qf_isFilter hi (br_f (by decide) ?_)
  unfold wpX_printOf
  rw [hy]
  refine qf_timesOf k hp hi hq ?_
  by_cases c : b i = true ∧ q = p
  · rw [if_pos c, c.2]
    exact br_f (by decide) (qf_takeOut k hp hi c.1 (fun u => H1 c u))
  · rw [if_neg c]
    exact br_t rfl (H0 c _)
theorem qf_maybe {post : Int32 → Prop} {y : Int32} (k : qf_K b p a1 a2 a3 a4 a5 a6) (hp : p < 256) (hi : i < 2) (hq : q < 256)
    (hy : ((y * (-1640531535)).toUInt32 >>> ((24 : Int32).toUInt32 &&& Int32.toUInt32 31)).toInt32 = nI q)
    (H1 : b i = true ∧ q = p → post 1) (H0 : ¬ (b i = true ∧ q = p) → post 0) : wpX_maybe post (rc, a1, a2, a3, a4, a5, a6, a7) (nI i) y := by
  unfold wpX_maybe
  refine qf_isFilter hi (br_f (by decide) ?_)
  unfold wpX_printOf
  rw [hy]
  refine qf_timesOf k hp hi hq ?_
  by_cases c : b i = true ∧ q = p
  · rw [if_pos c]
    exact br_f (by decide) (H1 c)
  · rw [if_neg c]
    exact br_t (by decide) (H0 c)
theorem qf_times {post : Int32 → Prop} {x : Int32} (k : qf_K b p a1 a2 a3 a4 a5 a6) (hp : p < 256) (hi : i < 2)
    (Hn : x < 0 → post (-1)) (Hb : ¬ x < 0 → ¬ x ≤ 255 → post (-1)) (H : ∀ t, t < 256 → x = nI t → post (if b i = true ∧ t = p then 1 else 0)) : wpX_times post (rc, a1, a2, a3, a4, a5, a6, a7) (nI i) x := by
  unfold wpX_times
  refine qf_isFilter hi (br_f (by decide) (br_c Hn (fun h0 => br_c (fun h1 => ?_) (Hb h0))))
  obtain ⟨t, ht, rfl⟩ := nI_of2 (M := 255) (n := 255) (by decide) h0 h1
  exact qf_timesOf k hp hi (by omega) (H t (by omega) rfl)
theorem qf_print {post : Int32 → St2 → Prop} {x : Int32} (k : qf_K b p a1 a2 a3 a4 a5 a6) (hp : p < 256) (hi : i < 2)
    (H1 : b i = true ∧ x = 0 → ∀ rc' a7', post (nI p) (rc', a1, a2, a3, a4, a5, a6, a7')) (H0 : ¬ (b i = true ∧ x = 0) → post (-3) (rc, a1, a2, a3, a4, a5, a6, a7)) : wpX_print post (rc, a1, a2, a3, a4, a5, a6, a7) (nI i) x := by
  unfold wpX_print
  refine qf_isFilter hi (br_f (by decide) (br_c (fun h0 => H0 (fun z => absurd h0 (by rw [z.2]; decide))) (fun h0 => ⟨qf_in2 hi, ?_⟩)))
  rw [qf_ci hi, k.2.1 i hi]
  obtain ⟨t, ht, rfl⟩ := nI_of h0
  by_cases hb : b i = true
  · rw [if_pos hb]
    refine pk_lt t 1 (fun ht1 => ?_) (fun ht1 => H0 (fun z => ?_))
    · have e : t = 0 := by omega
      subst e
      refine qf_readAll k hp hi (fun _ => ?_) (fun z => absurd hb z)
      refine ⟨0 + 1, br_f (by decide) ⟨0 + 1 + 1, br_f (by decide) ⟨vp_in_nI (n := 0) (by omega) (by omega), vp_in_nI (n := 0) (by omega) (by omega), br_t (Int32.le_refl _) ?_⟩⟩⟩
      unfold wX_print_79
      refine ⟨vp_in_nI (n := 0) (by omega) (by omega), vp_in_nI (n := 0) (by omega) (by omega), br_t rfl (nm_r (show (0 : Int32) + 1 = 1 by decide) (nm_r (show (0 : Int32) + 1 = 1 by decide) ?_))⟩
      refine br_t (by decide) (br_f (by decide) (br_f (by decide) ⟨vp_in_nI (n := 0) (by omega) (by omega), ?_⟩))
      exact H1 ⟨hb, rfl⟩ _ _
    · have z2 := z.2
      rw [← nI_0, nI_eq (by omega) (by omega)] at z2
      omega
  · rw [if_neg hb]
    exact br_f (nI_pos ht) (H0 (fun z => hb z.1))
theorem qf_pour {post : Int32 → St2 → Prop} (k : qf_K b p a1 a2 a3 a4 a5 a6) (hp : p < 256) (hi : i < 2) (hn : ¬ (b 0 = true ∧ b 1 = true))
    (H : ∀ rc' a2' a3' a4' a7' b', qf_K b' p a1 a2' a3' a4' a5 a6 → b' i = (b 0 || b 1) → post (if b 0 = true ∨ b 1 = true then 1 else 0) (rc', a1, a2', a3', a4', a5, a6, a7')) :
    wpX_pour post (rc, a1, a2, a3, a4, a5, a6, a7) (nI i) := by
  have ht : a2 0 + a2 1 = if b 0 = true ∨ b 1 = true then 1 else 0 := by
    rw [k.2.1 0 (by omega), k.2.1 1 (by omega)]
    by_cases c0 : b 0 = true
    · have c1 : ¬ b 1 = true := fun z => hn ⟨c0, z⟩
      rw [if_pos c0, if_neg c1, if_pos (Or.inl c0)]
      decide
    · by_cases c1 : b 1 = true
      · rw [if_neg c0, if_pos c1, if_pos (Or.inr c1)]
        decide
      · rw [if_neg c0, if_neg c1, if_neg (fun z => z.elim c0 c1)]
        decide
  unfold wpX_pour
  refine qf_isFilter hi (br_f (by decide) (nm_r ht (br_t (by split <;> decide) ⟨qf_in2 hi, nm_r (e' := 3) (by rw [qf_ci hi]; exact k.1 i hi) ⟨0 + 1, br_t (by split <;> decide) ⟨qf_in2 hi, br_t (by rw [qf_ci hi, k.1 i hi]; decide) ?_⟩⟩⟩)))
  unfold wX_pour_71
  have e1 : (1 : Int32) - nI i = nI (1 - i) := (show ∀ i, i < 2 → (1 : Int32) - nI i = nI (1 - i) by decide +kernel) i hi
  rw [e1]
  have hor : ∀ c d : Bool, (¬ c = true → d = true → (c || d) = true ∧ (d || c) = true) ∧ (¬ d = true → (c || d) = c ∧ (d || c) = c) := by decide
  have hb01 : (b 0 || b 1) = (b i || b (1 - i)) ∧ (b 0 = true ∨ b 1 = true ↔ (b i || b (1 - i)) = true) ∧ ¬ (b i = true ∧ b (1 - i) = true) := by
    by_cases e : i = 0
    · subst e
      exact ⟨rfl, by rw [Bool.or_eq_true], hn⟩
    · have e1 : i = 1 := by omega
      subst e1
      exact ⟨Bool.or_comm _ _, by rw [Bool.or_eq_true, or_comm], fun z => hn ⟨z.2, z.1⟩⟩
  obtain ⟨g1, g2, g3⟩ := hb01
  refine qf_readAll k hp (by omega) (fun hb => ?_) (fun hb => ?_)
  · have hbi : ¬ b i = true := fun z => g3 ⟨z, hb⟩
    refine ⟨0 + 1 + 1, br_f (by decide) ⟨vp_in_nI (n := 0) (by omega) (by omega), ?_⟩⟩
    rw [show upd a7 0 (nI p) (0 : Int32).toNatClampNeg = nI p from pk_us]
    refine qf_insert k hp hi hbi (fun a2' a3' a4' k' => ?_)
    refine nm_r (show (0 : Int32) + 1 = 1 by decide) (br_t (by decide) ⟨qf_in2 hi, ?_⟩)
    rw [qf_ci hi, k'.2.1 i hi, if_pos (by simp)]
    have hc : b 0 = true ∨ b 1 = true := g2.mpr (by rw [hb, Bool.or_true])
    have h := H 1 a2' a3' a4' (upd a7 0 (nI p)) _ k' (by rw [g1, hb, Bool.or_true]; simp)
    rw [if_pos hc] at h
    exact h
  · have hb' : b (1 - i) = false := by simpa using hb
    rw [hb', Bool.or_false] at g1 g2
    refine ⟨0 + 1, br_t (by decide) ⟨qf_in2 hi, ?_⟩⟩
    rw [qf_ci hi, k.2.1 i hi]
    have h := H 0 a2 a3 a4 a7 b k g1.symm
    by_cases c : b i = true
    · rw [if_pos (g2.mpr c)] at h
      rw [if_pos c]
      exact h
    · rw [if_neg (fun z => c (g2.mp z))] at h
      rw [if_neg c]
      exact h
theorem qf_add {post : Int32 → St2 → Prop} {x : Int32} (k : qf_K (fun _ => false) p a1 a2 a3 a4 a5 a6) (hp : p < 256) (hi : i < 2)
    (hx : ((x * (-1640531535)).toUInt32 >>> ((24 : Int32).toUInt32 &&& Int32.toUInt32 31)).toInt32 = nI p)
    (H : ∀ a2' a3' a4', qf_K (fun j => decide (j = i)) p a1 a2' a3' a4' a5 a6 → post 1 (rc, a1, a2', a3', a4', a5, a6, a7)) : wpX_add post (rc, a1, a2, a3, a4, a5, a6, a7) (nI i) x := by
  unfold wpX_add
  refine qf_isFilter hi (br_f (by decide) ⟨qf_in2 hi, ?_⟩)
  unfold wpX_slots
  refine ⟨qf_in2 hi, ?_⟩
  rw [qf_ci hi, k.1 i hi, k.2.1 i hi]
  refine br_t (show (0 : Int32) < 1 <<< ((3 : Int32) &&& 31) - 1 by decide) ?_
  unfold wpX_printOf
  rw [hx]
  refine qf_insert k hp hi (show ¬ false = true by decide) (fun a2' a3' a4' k' => ?_)
  have k2 : qf_K (fun j => decide (j = i)) p a1 a2' a3' a4' a5 a6 := by
    simpa only [Bool.false_or] using k'
  refine qf_timesOf k2 hp hi hp ?_
  rw [if_pos ⟨by simp, rfl⟩]
  exact H a2' a3' a4' k2
end
end
section
section
variable {rc : Int32} {a1 a2 a3 a4 a5 a6 a7 : Nat → Int32} {b : Nat → Bool} {p i q : Nat} {post : Int32 → St0 → Prop} {mc ms kc ks : Nat} {g y x x5 x7 x8 x9 z : Int32}
/-- the second filter's number is none: every call says so -/
theorem qf_LA (g0 : ¬ g = 0) (g1 : ¬ g = 1) (H : post 1 ()) : wL_lawOf_93 post mc ms g y x x5 0 x7 x8 0 z z kc ks rc a1 a2 a3 a4 a5 a6 a7 := by
  unfold wL_lawOf_93
  refine br_t rfl ?_
  unfold wpX_maybe
  refine qf_isFilterN g0 g1 (br_t rfl (br_t rfl ?_))
  unfold wL_lawOf_121 wL_lawOf_122
  refine br_t rfl ?_
  unfold wpX_times
  refine qf_isFilterN g0 g1 (br_t rfl (br_t rfl ?_))
  unfold wL_lawOf_153 wL_lawOf_174
  refine br_t rfl ?_
  unfold wpX_print
  refine qf_isFilterN g0 g1 (br_t rfl (br_t rfl ?_))
  unfold wL_lawOf_213
  refine br_t rfl ?_
  unfold wpX_pour
  refine qf_isFilterN g0 g1 (br_t rfl (br_t rfl ?_))
  unfold wL_lawOf_243
  refine br_t rfl ?_
  unfold wpX_remove
  refine qf_isFilterN g0 g1 (br_t rfl (br_t rfl ?_))
  unfold wL_lawOf_282
  exact br_t rfl H
theorem qf_282 (H : post 1 ()) : wL_lawOf_282 post mc ms z z kc ks := br_t rfl H
theorem qf_L243 (k : qf_K b p a1 a2 a3 a4 a5 a6) (hp : p < 256) (hi : i < 2) (hq : q < 256)
    (hy : ((y * (-1640531535)).toUInt32 >>> ((24 : Int32).toUInt32 &&& Int32.toUInt32 31)).toInt32 = nI q)
    (h5 : x5 = if b i = true then 1 else 0) (H : post 1 ()) : wL_lawOf_243 post mc ms (nI i) y x5 1 (nI p) (nI q) z z kc ks rc a1 a2 a3 a4 a5 a6 a7 := by
  unfold wL_lawOf_243
  refine br_t rfl (qf_remove k hp hi hq hy (fun c u => ?_) (fun c u => ?_))
  · obtain ⟨u0, u1, u2, u3, u4, u5, u6, u7⟩ := u
    rw [if_pos c.1] at h5
    exact br_f (by decide) (br_f (by rw [h5]; decide) (br_t (by rw [c.2]) (qf_282 H)))
  · obtain ⟨u0, u1, u2, u3, u4, u5, u6, u7⟩ := u
    refine br_f (by decide) (br_c (fun _ => qf_282 H) (fun n5 => br_f ?_ (qf_282 H)))
    rw [nI_eq (by omega) (by omega)]
    intro e
    by_cases hb : b i = true
    · exact c ⟨hb, e.symm⟩
    · rw [if_neg hb] at h5
      exact n5 h5
theorem qf_L213 (k : qf_K b p a1 a2 a3 a4 a5 a6) (hp : p < 256) (hi : i < 2) (hq : q < 256) (hn : ¬ (b 0 = true ∧ b 1 = true))
    (hy : ((y * (-1640531535)).toUInt32 >>> ((24 : Int32).toUInt32 &&& Int32.toUInt32 31)).toInt32 = nI q)
    (h5 : x5 = if b 0 = true ∨ b 1 = true then 1 else 0) (H : post 1 ()) : wL_lawOf_213 post mc ms (nI i) y x5 1 (nI p) (nI q) z z kc ks rc a1 a2 a3 a4 a5 a6 a7 := by
  unfold wL_lawOf_213
  refine br_t rfl (qf_pour k hp hi hn (fun rc' a2' a3' a4' a7' b' k' hb' => ?_))
  by_cases c : b 0 = true ∨ b 1 = true
  · rw [if_pos c] at h5 ⊢
    have hb : b' i = true := by rw [hb', Bool.or_eq_true]; exact c
    exact br_f (by decide) (br_f (by rw [h5]; decide) (qf_L243 k' hp hi hq hy (by rw [h5, if_pos hb]) H))
  · rw [if_neg c] at h5 ⊢
    have hb : ¬ b' i = true := by rw [hb', Bool.or_eq_true]; exact c
    exact br_f (by decide) (br_t h5 (qf_L243 k' hp hi hq hy (by rw [h5, if_neg hb]) H))
theorem qf_L174 (k : qf_K b p a1 a2 a3 a4 a5 a6) (hp : p < 256) (hi : i < 2) (hq : q < 256) (hn : ¬ (b 0 = true ∧ b 1 = true))
    (hy : ((y * (-1640531535)).toUInt32 >>> ((24 : Int32).toUInt32 &&& Int32.toUInt32 31)).toInt32 = nI q)
    (h5 : x5 = if b 0 = true ∨ b 1 = true then 1 else 0) (h9 : x9 = if b i = true then 1 else 0) (H : post 1 ()) : wL_lawOf_174 post mc ms (nI i) y x x5 1 (nI p) (nI q) x9 z z kc ks rc a1 a2 a3 a4 a5 a6 a7 := by
  unfold wL_lawOf_174
  refine br_t rfl (qf_print k hp hi (fun c rc' a7' => ?_) (fun c => ?_))
  · rw [if_pos c.1] at h9
    exact br_f (by decide) (br_f (by rw [h9]; decide) (br_t c.2 (qf_L213 k hp hi hq hn hy h5 H)))
  · refine br_f (by decide) (br_c (fun _ => qf_L213 k hp hi hq hn hy h5 H) (fun n9 => br_f (fun e => ?_) (qf_L213 k hp hi hq hn hy h5 H)))
    by_cases hb : b i = true
    · exact c ⟨hb, e⟩
    · rw [if_neg hb] at h9
      exact n9 h9
theorem qf_L122 (k : qf_K b p a1 a2 a3 a4 a5 a6) (hp : p < 256) (hi : i < 2) (hq : q < 256) (hn : ¬ (b 0 = true ∧ b 1 = true))
    (hy : ((y * (-1640531535)).toUInt32 >>> ((24 : Int32).toUInt32 &&& Int32.toUInt32 31)).toInt32 = nI q)
    (h5 : x5 = if b 0 = true ∨ b 1 = true then 1 else 0) (h9 : x9 = if b i = true then 1 else 0) (H : post 1 ()) : wL_lawOf_122 post mc ms (nI i) y x x5 1 (nI p) (nI q) x9 z z kc ks rc a1 a2 a3 a4 a5 a6 a7 := by
  have L : ∀ w : Int32, wL_lawOf_174 post mc ms (nI i) y x x5 1 (nI p) (nI q) x9 w w kc ks rc a1 a2 a3 a4 a5 a6 a7 := fun w => qf_L174 k hp hi hq hn hy h5 h9 H
  unfold wL_lawOf_122
  refine br_t rfl (qf_times k hp hi (fun n => ?_) (fun n m => ?_) (fun t ht e => ?_))
  · exact br_f (by decide) (br_t n (L _))
  · exact br_f (by decide) (br_f n (br_f m (L _)))
  · have n : ¬ x < 0 := by rw [e]; exact nI_pos (by omega)
    have m : x ≤ 255 := by rw [e]; exact nI_le (b := 255) (by omega) (by omega)
    refine br_f (by decide) (br_f n (br_t m ?_))
    by_cases hb : b i = true
    · rw [if_pos hb] at h9
      refine br_f (by rw [h9]; decide) ?_
      by_cases et : t = p
      · rw [if_pos ⟨hb, et⟩]
        exact br_t (by rw [e, et]) (L _)
      · rw [if_neg (fun z => et z.2)]
        exact br_f (by rw [e, nI_eq (by omega) (by omega)]; exact et) (L _)
    · rw [if_neg hb] at h9
      rw [if_neg (fun z => hb z.1)]
      exact br_t h9 (L _)
theorem qf_LB (k : qf_K b p a1 a2 a3 a4 a5 a6) (hp : p < 256) (hi : i < 2) (hq : q < 256) (hn : ¬ (b 0 = true ∧ b 1 = true))
    (hy : ((y * (-1640531535)).toUInt32 >>> ((24 : Int32).toUInt32 &&& Int32.toUInt32 31)).toInt32 = nI q)
    (h5 : x5 = if b 0 = true ∨ b 1 = true then 1 else 0) (h9 : x9 = if b i = true then 1 else 0) (H : post 1 ()) : wL_lawOf_93 post mc ms (nI i) y x x5 1 (nI p) (nI q) x9 z z kc ks rc a1 a2 a3 a4 a5 a6 a7 := by
  have L : ∀ w : Int32, wL_lawOf_122 post mc ms (nI i) y x x5 1 (nI p) (nI q) x9 w w kc ks rc a1 a2 a3 a4 a5 a6 a7 := fun w => qf_L122 k hp hi hq hn hy h5 h9 H
  unfold wL_lawOf_93
  refine br_t rfl (qf_maybe k hp hi hq hy (fun c => ?_) (fun c => ?_))
  · rw [if_pos c.1] at h9
    exact br_f (by rw [h9]; decide) (br_t (by rw [c.2]) (L _))
  · refine br_c (fun _ => L _) (fun n9 => br_f ?_ (L _))
    rw [nI_eq (by omega) (by omega)]
    intro e
    by_cases hb : b i = true
    · exact c ⟨hb, e.symm⟩
    · rw [if_neg hb] at h9
      exact n9 h9
end
theorem qf_init {post : St2 → Prop} {rc : Int32} (p : Nat) (H : ∀ a1, qf_K (fun _ => false) p a1 (fun _ => 0) (fun _ => 0) (fun _ => 0) (fun _ => 0) (fun _ => 0) → post (rc, a1, (fun _ => 0), (fun _ => 0), (fun _ => 0), (fun _ => 0), (fun _ => 0), (fun _ => 0))) : wpX_init post 7 580 rc := by
  unfold wpX_init
  refine ⟨by omega, by omega, by omega, by omega, by omega, by omega, by omega, by omega, by omega, by omega, by omega, by omega, by omega, by omega, nm_e (nm_e (H _ ⟨fun i hi => ?_, fun i hi => ?_, fun i hi h => ?_, fun i hi s hs => ?_, fun _ _ _ _ => rfl, fun _ _ _ _ => rfl⟩))⟩
  · by_cases e : i = 0
    · subst e
      rfl
    · have e1 : i = 1 := by omega
      subst e1
      rfl
  · exact (if_neg (show ¬ false = true by decide)).symm
  · exact absurd h (show ¬ false = true by decide)
  · exact (if_neg (fun z => absurd z.1 (show ¬ false = true by decide))).symm
section
variable {p i q : Nat} {post : Int32 → St0 → Prop} {f x g y k x6 x7 x8 z0 : Int32}
theorem qf_65G (hp : p < 256) (hi : i < 2) (hx : ((x * (-1640531535)).toUInt32 >>> ((24 : Int32).toUInt32 &&& Int32.toUInt32 31)).toInt32 = nI p)
    (H : ∀ kc ks rc a1 a2 a3 a4 a5 a6 a7, qf_K (fun j => decide (j = i)) p a1 a2 a3 a4 a5 a6 → wL_lawOf_93 post 102 1632 g y k 1 x6 x7 x8 z0 1 1 kc ks rc a1 a2 a3 a4 a5 a6 a7) :
    wL_lawOf_65 post 102 1632 (nI i) x g y k 1 x6 x7 x8 z0 0 0 := by
  unfold wL_lawOf_65
  refine ⟨by omega, by omega, 7, 580, by omega, by omega, qf_init p (fun a1 k0 => ?_)⟩
  exact qf_add k0 hp hi hx (fun a2' a3' a4' k' => br_f (by decide) (H _ _ _ _ _ _ _ _ _ _ k'))
theorem qf_65N (f0 : ¬ f = 0) (f1 : ¬ f = 1)
    (H : ∀ kc ks rc a1 a2 a3 a4 a5 a6 a7, qf_K (fun _ => false) p a1 a2 a3 a4 a5 a6 → wL_lawOf_93 post 102 1632 g y k 0 x6 x7 x8 z0 (-1) (-1) kc ks rc a1 a2 a3 a4 a5 a6 a7) :
    wL_lawOf_65 post 102 1632 f x g y k 0 x6 x7 x8 z0 0 0 := by
  unfold wL_lawOf_65
  refine ⟨by omega, by omega, 7, 580, by omega, by omega, qf_init p (fun a1 k0 => ?_)⟩
  dsimp only
  unfold wpX_add
  exact qf_isFilterN f0 f1 (br_t rfl (br_t rfl (H _ _ _ _ _ _ _ _ _ _ k0)))
theorem qf_14G (hi : i < 2) (H : post 1 ()) : wL_lawOf_14 post 102 1632 (nI i) x g y k 1 0 0 := by
  obtain ⟨p, hp, hx⟩ := qf_pr x
  obtain ⟨q, hq, hy⟩ := qf_pr y
  have hor : decide (0 = i) = true ∨ decide (1 = i) = true := by
    rw [decide_eq_true_iff, decide_eq_true_iff]
    omega
  have hn : ¬ (decide (0 = i) = true ∧ decide (1 = i) = true) := by
    rw [decide_eq_true_iff, decide_eq_true_iff]
    omega
  have G : ∀ j, j < 2 → g = nI j → wL_lawOf_30 post 102 1632 (nI i) x g y k 1 1 0 0 := by
    intro j hj e
    subst e
    unfold wL_lawOf_30
    refine nm_r hx (nm_r hy (br_f (by decide) (br_c (fun c => ?_) (fun c => ?_))))
    · rw [nI_eq (by omega) (by omega)] at c
      exact qf_65G hp hi hx (fun kc ks rc a1 a2 a3 a4 a5 a6 a7 k' => qf_LB k' hp hj hq hn hy (by rw [if_pos hor]) (by rw [if_pos (by rw [decide_eq_true_iff]; exact c)]) H)
    · rw [nI_eq (by omega) (by omega)] at c
      exact qf_65G hp hi hx (fun kc ks rc a1 a2 a3 a4 a5 a6 a7 k' => qf_LB k' hp hj hq hn hy (by rw [if_pos hor]) (by rw [if_neg (by rw [decide_eq_true_iff]; exact c)]) H)
  unfold wL_lawOf_14
  refine br_c (fun g0 => G 0 (by omega) g0) (fun g0 => br_c (fun g1 => G 1 (by omega) g1) (fun g1 => ?_))
  unfold wL_lawOf_30
  have ne : ¬ g = nI i := by
    intro e
    by_cases c : i = 0
    · exact g0 (by rw [e, c]; rfl)
    · exact g1 (by rw [e, show i = 1 by omega]; rfl)
  exact nm_r hx (nm_r hy (br_f (by decide) (br_f ne (qf_65G hp hi hx (fun kc ks rc a1 a2 a3 a4 a5 a6 a7 k' => qf_LA g0 g1 H)))))
theorem qf_14N (f0 : ¬ f = 0) (f1 : ¬ f = 1) (H : post 1 ()) : wL_lawOf_14 post 102 1632 f x g y k 0 0 0 := by
  obtain ⟨p, hp, hx⟩ := qf_pr x
  obtain ⟨q, hq, hy⟩ := qf_pr y
  have G : ∀ j, j < 2 → g = nI j → wL_lawOf_30 post 102 1632 f x g y k 0 1 0 0 := by
    intro j hj e
    subst e
    unfold wL_lawOf_30
    exact nm_r hx (nm_r hy (br_t rfl (qf_65N f0 f1 (fun kc ks rc a1 a2 a3 a4 a5 a6 a7 k' => qf_LB k' hp hj hq (show ¬ (false = true ∧ false = true) by decide) hy (if_neg (show ¬ (false = true ∨ false = true) by decide)).symm (if_neg (show ¬ false = true by decide)).symm H))))
  unfold wL_lawOf_14
  refine br_c (fun g0 => G 0 (by omega) g0) (fun g0 => br_c (fun g1 => G 1 (by omega) g1) (fun g1 => ?_))
  unfold wL_lawOf_30
  exact nm_r hx (nm_r hy (br_t rfl (qf_65N (p := 0) f0 f1 (fun kc ks rc a1 a2 a3 a4 a5 a6 a7 k' => qf_LA g0 g1 H))))
theorem qf_lawOf (H : post 1 ()) : wpL_lawOf post 102 1632 () f x g y k := by
  unfold wpL_lawOf
  refine br_c (fun f0 => ?_) (fun f0 => br_c (fun f1 => ?_) (fun f1 => qf_14N f0 f1 H))
  · subst f0
    exact qf_14G (i := 0) (by omega) H
  · subst f1
    exact qf_14G (i := 1) (by omega) H
end
theorem qf_cell {post : Int32 → Prop} {L : Nat} {xs : Nat → Int32} {u : St0} (j : Nat) (hL : L ≤ 5) (hj : j < 5) (H : ∀ r, post r) : wpL_cellAt post L xs u (nI j) := by
  unfold wpL_cellAt
  refine br_c (fun _ => H 0) (fun h => ⟨vp_in_nI ?_ (by omega), H _⟩)
  rcases Nat.lt_or_ge j L with z | z
  · exact z
  · exact absurd (nI_le z (by omega)) h
theorem i_vc (xs : Nat → Int32) (L : Nat) (hL : L ≤ 5) : wpL_law (fun r => r = 1) L xs := by
  unfold wpL_law
  exact qf_cell 0 hL (by omega) (fun _ => qf_cell 1 hL (by omega) (fun _ => qf_cell 2 hL (by omega) (fun _ => qf_cell 3 hL (by omega) (fun _ => qf_cell 4 hL (by omega) (fun _ => ⟨102, 1632, by omega, by omega, qf_lawOf rfl⟩)))))
end
