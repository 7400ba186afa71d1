/-! CONTRACTS of ApplyFree$Index -/
/-- arrays in which keys and lists lie -/
def ix_ar (a n : Nat) : Prop := (a = 638 ∧ n = 600000) ∨ (a = 22 ∧ n = 524288) ∨ (a = 644 ∧ n = 256)
theorem ix_ar_typ {z : wd_Z} {a n : Nat} (h : ix_ar a n) : wd_typ z a = .inr (0, n) := by
  rcases h with ⟨rfl, rfl⟩ | ⟨rfl, rfl⟩ | ⟨rfl, rfl⟩ <;> rfl
theorem ix_gI {z : wd_Z} {a n : Nat} {P : Prop} (h : ix_ar a n) (p : P) : am_gd (am_isI (wd_typ z a)) P := am_gd_i (by rw [ix_ar_typ h]; rfl) p
theorem ix_gL {z : wd_Z} {a n k : Nat} (h : ix_ar a n) (hk : k < n) : vp_in (nI k) (am_len (wd_typ z a)) := by
  rw [ix_ar_typ h]
  refine vp_in_nI hk ?_
  rcases h with ⟨_, rfl⟩ | ⟨_, rfl⟩ | ⟨_, rfl⟩ <;> decide
/-- the key kx is found at row x2 of the array a by the columns that lie in b from x4 on -/
def ix_key (M : wd_M) (a x2 b x4 : Nat) (kx : List Int32) : Prop := ∃ la lb, ix_ar a la ∧ ix_ar b lb ∧ ∀ c v, kx[c]? = some v → ∃ col, M b (x4 + c) = nI col ∧ x4 + c < lb ∧ x2 + col < la ∧ M a (x2 + col) = v
theorem ix_key_fr {M M' : wd_M} {a x2 b x4 : Nat} {kx : List Int32} (h : ix_key M a x2 b x4 kx) (ha : M' a = M a) (hb : M' b = M b) : ix_key M' a x2 b x4 kx := by
  obtain ⟨la, lb, h1, h2, h3⟩ := h
  exact ⟨la, lb, h1, h2, fun c v hv => by rw [ha, hb]; exact h3 c v hv⟩
def ix_h0 (kx : List Int32) : Int32 := kx.foldl (fun h v => h * 31 + v) 17
def ix_h1 (h : Int32) : Int32 := ((h ^^^ ((h.toUInt32 >>> (Int32.toUInt32 12 &&& Int32.toUInt32 31)).toInt32)) ^^^ ((h.toUInt32 >>> (Int32.toUInt32 22 &&& Int32.toUInt32 31)).toInt32)) &&& 4095
def ix_hs (kx : List Int32) : Nat := (ix_h1 (ix_h0 kx)).toNatClampNeg
theorem ix_hs_eq (kx : List Int32) : ix_h1 (ix_h0 kx) = nI (ix_hs kx) ∧ ix_hs kx < 4096 := by
  unfold ix_hs ix_h1
  obtain ⟨j, h1, h2⟩ := pk_andE ((ix_h0 kx ^^^ (((ix_h0 kx).toUInt32 >>> (Int32.toUInt32 12 &&& Int32.toUInt32 31)).toInt32)) ^^^ (((ix_h0 kx).toUInt32 >>> (Int32.toUInt32 22 &&& Int32.toUInt32 31)).toInt32)) (m := 4095) 12 (by decide)
  rw [h2, nI_clamp (by omega)]
  exact ⟨rfl, h1⟩
section IX
variable {d : Nat} {z : wd_Z} {M : wd_M} {L : wd_L}
theorem ix_hash_7 {a x2 b x4 : Nat} {kx : List Int32} {K : Int32 → wd_Z → wd_M → wd_L → Prop} (hk : ix_key M a x2 b x4 kx) (hn : M 631 12 = nI kx.length) (hl : kx.length ≤ 256) (hK : K (nI (ix_hs kx)) z M L) : ∀ (n i : Nat), i + n = kx.length → wRun (d, 0, 0) mX7_hash 7 [some (.ref 631), some (.ref a), some (.int (nI x2)), some (.ref b), some (.int (nI x4)), some (.int (ix_h0 (kx.take i))), some (.int (nI i))] [] z M L (wQi K)
  | 0, i, hi => by
    have ei : i = kx.length := by omega
    subst ei
    refine fX7_hash_7 ⟨fun _ => ?_, fun q => absurd (by rw [hn]; exact nI_le (Nat.le_refl _) (by omega)) q⟩
    rw [List.take_length]
    have := (ix_hs_eq kx).1
    unfold ix_h1 at this
    rw [this]
    exact wQi_i hK
  | n + 1, i, hi => by
    obtain ⟨la, lb, h1, h2, h3⟩ := hk
    obtain ⟨col, c1, c2, c3, c4⟩ := h3 i kx[i] (List.getElem?_eq_getElem (by omega))
    have hla : la < 2 ^ 31 := by rcases h1 with ⟨_, rfl⟩ | ⟨_, rfl⟩ | ⟨_, rfl⟩ <;> decide
    have hlb : lb < 2 ^ 31 := by rcases h2 with ⟨_, rfl⟩ | ⟨_, rfl⟩ | ⟨_, rfl⟩ <;> decide
    refine fX7_hash_7 ⟨fun q => absurd q (by rw [hn]; exact nI_ge (by omega) (by omega)), fun _ => ix_gI h2 ?_⟩
    rw [nI_add, nI_clamp (by omega), c1, nI_add, nI_clamp (by omega), c4, nI_1]
    refine ⟨ix_gL h2 c2, ix_gI h1 ⟨ix_gL h1 c3, ?_⟩⟩
    have := ix_hash_7 (K := K) ⟨la, lb, h1, h2, h3⟩ hn hl hK n (i + 1) (by omega)
    have e : ix_h0 (kx.take (i + 1)) = ix_h0 (kx.take i) * 31 + kx[i] := by
      rw [sl_take (List.getElem?_eq_getElem (show i < kx.length by omega))]
      unfold ix_h0
      rw [List.foldl_append]; rfl
    rw [e] at this
    exact this
theorem ix_hash {a x2 b x4 : Nat} {kx : List Int32} {K : Int32 → wd_Z → wd_M → wd_L → Prop} (hk : ix_key M a x2 b x4 kx) (hn : M 631 12 = nI kx.length) (hl : kx.length ≤ 256) (hK : K (nI (ix_hs kx)) z M L) : wRunI (d, 0, 0) mX7_hash [.ref 631, .ref a, .int (nI x2), .ref b, .int (nI x4)] z M L K := by
  refine fX7_hash_e ?_
  have := ix_hash_7 (d := d) (K := K) hk hn hl hK kx.length 0 (by omega)
  exact this
/-- the index' own rows: where they lie, and by which columns -/
def ix_own (z : wd_Z) (M : wd_M) (p w b f n : Nat) : Prop := z.2.2.2.1 = some 638 ∧ z.2.2.2.2 = some b ∧ M 631 8 = nI p ∧ M 631 9 = nI w ∧ M 631 11 = nI f ∧ M 631 12 = nI n
theorem ix_isKey_24 {a x2 b x4 r0 p w bb f : Nat} {kx ky : List Int32} {K : Int32 → wd_Z → wd_M → wd_L → Prop} (ho : ix_own z M p w bb f kx.length) (hk : ix_key M a x2 b x4 kx) (hy : ix_key M 638 r0 bb f ky) (hlen : ky.length = kx.length) (hl : kx.length ≤ 256) (hK : K (if kx = ky then 1 else 0) z M L) : ∀ (n i : Nat), i + n = kx.length →
    wRun (d, 0, 0) mX7_isKey 24 [some (.ref 631), none, some (.ref a), some (.int (nI x2)), some (.ref b), some (.int (nI x4)), some (.int (nI r0)), some (.int (if kx.take i = ky.take i then 1 else 0)), some (.int (nI i))] [] z M L (wQi K)
  | 0, i, hi => by
    have ei : i = kx.length := by omega
    subst ei
    obtain ⟨o1, o2, o3, o4, o5, o6⟩ := ho
    rw [List.take_length, ← hlen, List.take_length]
    have fin : am_gz (if kx = ky then (1 : Int32) else 0) (wQi K (some (.int (if kx = ky then (1 : Int32) else 0))) (wd z M L)) := by
      split at hK
      · rename_i h; rw [if_pos h]; exact am_gz1 (wQi_i hK)
      · rename_i h; rw [if_neg h]; exact am_gz0 (wQi_i hK)
    exact fX7_isKey_24 ⟨fun _ => fin, fun q => absurd (by rw [o6, hlen]; exact nI_le (Nat.le_refl _) (by omega)) q⟩
  | n + 1, i, hi => by
    obtain ⟨o1, o2, o3, o4, o5, o6⟩ := ho
    have fin : kx.take i ≠ ky.take i → am_gz (if kx.take i = ky.take i then (1 : Int32) else 0) (wQi K (some (.int (if kx.take i = ky.take i then (1 : Int32) else 0))) (wd z M L)) := fun h => by
      rw [if_neg h]
      have : ¬ kx = ky := fun e => h (by rw [e])
      rw [if_neg this] at hK
      exact am_gz0 (wQi_i hK)
    refine fX7_isKey_24 ⟨fun q => absurd q (by rw [o6]; exact nI_ge (by omega) (by omega)), fun _ => ⟨fun q => fin fun e => by rw [if_pos e] at q; exact absurd q (by decide), fun q => ?_⟩⟩
    have hpre : kx.take i = ky.take i := by
      refine Decidable.byContradiction fun e => q ?_
      rw [if_neg e]
    obtain ⟨la, lb, h1, h2, h3⟩ := hk
    obtain ⟨la', lb', g1, g2, g3⟩ := hy
    obtain ⟨col, c1, c2, c3, c4⟩ := h3 i kx[i] (List.getElem?_eq_getElem (by omega))
    obtain ⟨col', e1, e2, e3, e4⟩ := g3 i (ky[i]'(by omega)) (List.getElem?_eq_getElem (by omega))
    have hla : la < 2 ^ 31 := by rcases h1 with ⟨_, rfl⟩ | ⟨_, rfl⟩ | ⟨_, rfl⟩ <;> decide
    have hlb : lb < 2 ^ 31 := by rcases h2 with ⟨_, rfl⟩ | ⟨_, rfl⟩ | ⟨_, rfl⟩ <;> decide
    have hla' : la' < 2 ^ 31 := by rcases g1 with ⟨_, rfl⟩ | ⟨_, rfl⟩ | ⟨_, rfl⟩ <;> decide
    have hlb' : lb' < 2 ^ 31 := by rcases g2 with ⟨_, rfl⟩ | ⟨_, rfl⟩ | ⟨_, rfl⟩ <;> decide
    refine am_bR_i o1 (am_bR_i o2 (ix_gI g2 ?_))
    rw [o5, nI_add, nI_add, nI_clamp (show f + i < 2 ^ 31 by omega), nI_clamp (show x4 + i < 2 ^ 31 by omega), e1, c1, nI_add, nI_add, nI_clamp (show r0 + col' < 2 ^ 31 by omega), nI_clamp (show x2 + col < 2 ^ 31 by omega), e4, c4, nI_1]
    refine ⟨ix_gL g2 e2, ix_gI g1 ⟨ix_gL g1 e3, ix_gI h2 ⟨ix_gL h2 c2, ix_gI h1 ⟨ix_gL h1 c3, ?_⟩⟩⟩⟩
    have nx := ix_isKey_24 (K := K) ⟨o1, o2, o3, o4, o5, o6⟩ ⟨la, lb, h1, h2, h3⟩ ⟨la', lb', g1, g2, g3⟩ hlen hl hK n (i + 1) (by omega)
    rw [sl_take (List.getElem?_eq_getElem (show i < kx.length by omega)), sl_take (List.getElem?_eq_getElem (show i < ky.length by omega)), hpre] at nx
    refine ⟨fun e => ?_, fun e => ?_⟩
    · rw [e, if_pos rfl] at nx; exact nx
    · rw [if_neg (fun h => e (by have q := List.append_cancel_left h; injection q with q1; exact q1.symm))] at nx; exact nx
theorem ix_isKey {a x2 b x4 j r0 p w bb f i : Nat} {kx ky : List Int32} {K : Int32 → wd_Z → wd_M → wd_L → Prop} (ho : ix_own z M p w bb f kx.length) (hj : j < 8192) (hi : M 634 j = nI i) (hr : p + i * w = r0) (hk : ix_key M a x2 b x4 kx) (hy : ix_key M 638 r0 bb f ky) (hlen : ky.length = kx.length) (hl : kx.length ≤ 256) (hK : K (if kx = ky then 1 else 0) z M L) :
    wRunI (d, 0, 0) mX7_isKey [.ref 631, .int (nI j), .ref a, .int (nI x2), .ref b, .int (nI x4)] z M L K := by
  refine fX7_isKey_e ?_
  rw [nI_clamp (by omega), hi, ho.2.2.1, ho.2.2.2.1, pk_mul, nI_add, hr]
  refine ⟨vp_in_nI hj (by omega), ?_⟩
  have := ix_isKey_24 (d := d) (K := K) ho hk hy hlen hl hK kx.length 0 (by omega)
  exact this
end IX
/-! chains of keys: the last one before n with P -/
def ix_lb (P : Nat → Bool) : Nat → Option Nat
  | 0 => none
  | n + 1 => if P n then some n else ix_lb P n
theorem ix_lb_some {P : Nat → Bool} {j : Nat} : ∀ {n : Nat}, ix_lb P n = some j → j < n ∧ P j = true ∧ ∀ i, j < i → i < n → P i = false
  | 0, h => by cases h
  | n + 1, h => by
    unfold ix_lb at h
    split at h
    · rename_i q
      cases h
      exact ⟨by omega, q, fun i h1 h2 => by omega⟩
    · rename_i q
      obtain ⟨h1, h2, h3⟩ := ix_lb_some h
      refine ⟨by omega, h2, fun i i1 i2 => ?_⟩
      by_cases e : i = n
      · rw [e]; simpa using q
      · exact h3 i i1 (by omega)
theorem ix_lb_none {P : Nat → Bool} : ∀ {n : Nat}, ix_lb P n = none → ∀ i, i < n → P i = false
  | 0, _, i, hi => by omega
  | n + 1, h, i, hi => by
    unfold ix_lb at h
    split at h
    · cases h
    · rename_i q
      by_cases e : i = n
      · rw [e]; simpa using q
      · exact ix_lb_none h i (by omega)
theorem ix_lb_congr {P Q : Nat → Bool} : ∀ {n : Nat}, (∀ i, i < n → P i = Q i) → ix_lb P n = ix_lb Q n
  | 0, _ => rfl
  | n + 1, h => by
    unfold ix_lb
    rw [h n (by omega), ix_lb_congr (n := n) fun i hi => h i (by omega)]
