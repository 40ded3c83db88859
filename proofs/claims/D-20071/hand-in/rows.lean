section
/-- the byte whose unsigned value is t -/
def ap_b (t : Nat) : Int32 := (Int8.ofNat t).toInt32
/-- every stored byte is one of them -/
theorem ap_byte (z : Int32) : ∃ t : Nat, t < 256 ∧ z.toInt8.toInt32 = ap_b t := by
  refine ⟨z.toInt8.toBitVec.toNat, z.toInt8.toBitVec.isLt, ?_⟩
  have e : Int8.ofNat z.toInt8.toBitVec.toNat = z.toInt8 := by
    refine Int8.toBitVec_inj.mp ?_
    show BitVec.ofNat 8 z.toInt8.toBitVec.toNat = z.toInt8.toBitVec
    rw [BitVec.ofNat_toNat, BitVec.setWidth_eq]
  show z.toInt8.toInt32 = (Int8.ofNat z.toInt8.toBitVec.toNat).toInt32
  rw [e]
theorem ap_0 : (0 : Int32) = ap_b 0 := by decide
theorem ap_and : ∀ t, t < 256 → ap_b t &&& 255 = nI t := by decide +kernel
theorem ap_ms8 : ∀ t, t < 256 → (ap_b t <<< ((8 : Int32) &&& 31)).toBitVec.msb = decide (128 ≤ t) := by decide +kernel
theorem ap_ms : ∀ t, t < 256 → (ap_b t).toBitVec.msb = decide (128 ≤ t) := by decide +kernel
theorem ap_sg : ∀ t, t < 256 → (0 ≤ ap_b t ↔ t < 128) := by decide +kernel
theorem ap_lo : ∀ t, t < 128 → ap_b t = nI t := by decide +kernel
theorem ap_hi : ∀ t, t < 256 → 128 ≤ t → ap_b t + 256 = nI t := by decide +kernel
theorem ap_or {t q : Nat} (ht : t < 256) (hq : q < 256) : (nI t <<< ((8 : Int32) &&& 31)) ||| nI q = nI (256 * t + q) := by
  have e : 256 * t + q = 256 * t ||| q := Nat.two_pow_add_eq_or_of_lt (i := 8) hq t
  have s : nI t <<< ((8 : Int32) &&& 31) = nI (256 * t) := by
    rw [pk_shlN ((8 : Int32) &&& 31) 8 (by decide) (by omega)]
    exact congrArg nI (by omega)
  rw [s]
  apply Int32.toBitVec_inj.mp
  apply BitVec.eq_of_toNat_eq
  rw [Int32.toBitVec_or, BitVec.toNat_or, pk_tn (show 256 * t < 2 ^ 32 by omega), pk_tn (show q < 2 ^ 32 by omega), pk_tn (show 256 * t + q < 2 ^ 32 by omega)]
  exact e.symm
/-- both bytes below 128: 'signed' is 'masked' -/
theorem ap_same {t q : Nat} (ht : t < 128) (hq : q < 128) : (ap_b t <<< ((8 : Int32) &&& 31)) ||| ap_b q = nI (256 * t + q) := by
  rw [ap_lo t ht, ap_lo q hq]
  exact ap_or (by omega) (by omega)
/-- one byte at 128 or more: 'signed' is below 0, 'masked' isn't -/
theorem ap_apart {t q : Nat} (ht : t < 256) (hq : q < 256) (h : ¬ (t < 128 ∧ q < 128)) : ¬ (ap_b t <<< ((8 : Int32) &&& 31)) ||| ap_b q = nI (256 * t + q) := by
  intro e
  have k : ((ap_b t <<< ((8 : Int32) &&& 31)) ||| ap_b q).toBitVec.msb = (nI (256 * t + q)).toBitVec.msb := by rw [e]
  have m : (nI (256 * t + q)).toBitVec.msb = false := by
    rw [BitVec.msb_eq_decide, pk_tn (show 256 * t + q < 2 ^ 32 by omega)]
    exact decide_eq_false (show ¬ (2147483648 ≤ 256 * t + q) by omega)
  rw [Int32.toBitVec_or, BitVec.msb_or, ap_ms8 t ht, ap_ms q hq, m, Bool.or_eq_false_iff, decide_eq_false_iff_not, decide_eq_false_iff_not] at k
  omega
/-- what both methods answer over the bytes t, q -/
def ap_v (t q : Nat) : Int32 := if t < 128 ∧ q < 128 then nI (256 * t + q) else -nI (256 * t + q)
end
section
/-- the class: bytePair answers ap_v -/
theorem ap_x0 {post : Int32 → Prop} {a : Nat → Int32} {n k t q : Nat} (hn : n ≤ 65536) (hk : k + 1 < n) (ht : t < 256) (hq : q < 256) (et : a k = ap_b t) (eq : a (k + 1) = ap_b q) (hp : post (ap_v t q)) : wpX0_bytePair post (a, n) (nI k) := by
  unfold wpX0_bytePair
  dsimp only
  rw [nI_1 k, nI_clamp (show k < 2 ^ 31 by omega), nI_clamp (show k + 1 < 2 ^ 31 by omega), et, eq, ap_and t ht, ap_and q hq, ap_or ht hq]
  have i0 : vp_in (nI k) n := vp_in_nI (by omega) (by omega)
  have i1 : vp_in (nI (k + 1)) n := vp_in_nI hk (by omega)
  refine ⟨i0, i1, nm_e ⟨i0, i1, nm_e ?_⟩⟩
  unfold ap_v at hp
  by_cases c : t < 128 ∧ q < 128
  · rw [if_pos c] at hp
    exact br_t (ap_same c.1 c.2) hp
  · rw [if_neg c] at hp
    exact br_f (ap_apart ht hq c) hp
/-- the twin: one turn of its loop -/
theorem ap_turn {post : Int32 → Prop} {a : Nat → Int32} {n k m i t : Nat} {x2 x3 : Int32} (hn : n ≤ 65536) (hk : k + 1 < n) (hi : i < k + 2) (ht : t < 256) (et : a i = ap_b t) (h : wX1_bytePair_7 post (nI k) a n m (256 * x2 + nI t) (if t < 128 then x3 else 1) (nI (i + 1))) : wX1_bytePair_7 post (nI k) a n (m + 1) x2 x3 (nI i) := by
  refine pk_le (k + 2) i (fun z => absurd z (by omega)) (fun _ => ⟨vp_in_nI (by omega) (by omega), nm_r (e' := ap_b t) (by rw [nI_clamp (by omega)]; exact et) ?_⟩) (nI_add k 2)
  by_cases c : t < 128
  · rw [if_pos c] at h
    refine br_t ((ap_sg t ht).mpr c) ?_
    unfold wX1_bytePair_36
    exact nm_r (by rw [ap_lo t c]) (nm_r (nI_1 i) h)
  · rw [if_neg c] at h
    refine br_f (fun z => c ((ap_sg t ht).mp z)) (nm_r (ap_hi t ht (by omega)) ?_)
    unfold wX1_bytePair_36
    exact nm_e (nm_r (nI_1 i) h)
theorem ap_end {post : Int32 → Prop} {a : Nat → Int32} {n k m : Nat} {x2 x3 : Int32} (hk : k + 2 < 2 ^ 31) (h : (x3 = 0 → post x2) ∧ (¬ x3 = 0 → post (-x2))) : wX1_bytePair_7 post (nI k) a n (m + 1) x2 x3 (nI (k + 2)) :=
  pk_le (k + 2) (k + 2) (fun _ => h) (fun z => absurd z (by omega)) (nI_add k 2)
theorem ap_val (t q : Nat) : (256 : Int32) * (256 * 0 + nI t) + nI q = nI (256 * t + q) := by
  rw [Int32.mul_zero, Int32.zero_add]
  show nI 256 * nI t + nI q = _
  rw [pk_mul, nI_add]
theorem ap_fin {post : Int32 → Prop} {t q : Nat} {z : Int32} (hz : z = nI (256 * t + q)) (hp : post (ap_v t q)) : ((if q < 128 then (if t < 128 then (0 : Int32) else 1) else 1) = 0 → post z) ∧ (¬ (if q < 128 then (if t < 128 then (0 : Int32) else 1) else 1) = 0 → post (-z)) := by
  subst hz
  unfold ap_v at hp
  by_cases d : q < 128
  · by_cases c : t < 128
    · rw [if_pos ⟨c, d⟩] at hp
      rw [if_pos d, if_pos c]
      exact br_t rfl hp
    · rw [if_neg (fun g => c g.1)] at hp
      rw [if_pos d, if_neg c]
      exact br_f (by decide) hp
  · rw [if_neg (fun g => d g.2)] at hp
    rw [if_neg d]
    exact br_f (by decide) hp
/-- the twin: bytePair answers ap_v -/
theorem ap_x1 {post : Int32 → Prop} {a : Nat → Int32} {n k t q : Nat} (hn : n ≤ 65536) (hk : k + 1 < n) (ht : t < 256) (hq : q < 256) (et : a k = ap_b t) (eq : a (k + 1) = ap_b q) (hp : post (ap_v t q)) : wpX1_bytePair post (a, n) (nI k) := by
  unfold wpX1_bytePair
  dsimp only
  exact ⟨3, ap_turn hn hk (by omega) ht et (ap_turn hn hk (by omega) hq eq (ap_end (by omega) (ap_fin (ap_val t q) hp)))⟩
end
section
/-- a store of a byte keeps the array one of bytes -/
theorem ap_put {s : Nat → Int32} {k : Nat} {z : Int32} (h : ∀ j, ∃ t, t < 256 ∧ s j = ap_b t) : ∀ j, ∃ t, t < 256 ∧ upd s k z.toInt8.toInt32 j = ap_b t := by
  intro j
  by_cases e : j = k
  · rw [e, pk_us]
    exact ap_byte z
  · rw [pk_un e]
    exact h j
/-- behind the law's loop: the place is in range, both answers are one -/
theorem ap_last {post : Int32 → St0 → Prop} {x2 : Int32} {n : Nat} {s : Nat → Int32} (h2 : 2 ≤ n) (h8 : n ≤ 8) (hp : post 1 ()) (h : ∀ j, ∃ t, t < 256 ∧ s j = ap_b t) :
    ¬ (nI n - 1) = 0 ∧ (∀ x4_11 : Int32, x4_11 = (x2 &&& 7) - (x2 &&& 7) / (nI n - 1) * (nI n - 1) → (wpX0_bytePair (fun r_12 => (wpX1_bytePair (fun r_13 => (((r_12 = r_13 → (post 1 ())) ∧ (¬ r_12 = r_13 → (post 0 ()))))) (s, n) x4_11)) (s, n) x4_11)) := by
  obtain ⟨p, hp8, ep⟩ := pk_andE x2 (m := 7) 3 (by decide)
  obtain ⟨d, rfl⟩ : ∃ d, n = d + 1 := ⟨n - 1, by omega⟩
  rw [nI_pred d, ep, pk_rem (by omega) (by omega) (by omega)]
  have hk : p % d < d := Nat.mod_lt _ (by omega)
  obtain ⟨t, ht, et⟩ := h (p % d)
  obtain ⟨q, hq, eq⟩ := h (p % d + 1)
  exact ⟨nI_ne0 (by omega) (by omega), nm_e (ap_x0 (by omega) (by omega) ht hq et eq (ap_x1 (by omega) (by omega) ht hq et eq (br_t rfl hp)))⟩
/-- the law's loop: every place holds a byte -/
theorem ap_15 {post : Int32 → St0 → Prop} {mc ms kc ks n : Nat} {x0 x2 : Int32} (h2 : 2 ≤ n) (h8 : n ≤ 8) (hp : post 1 ()) : ∃ f, wL_lawOf_15 post mc ms x0 x2 kc ks n f 0 (fun _ => 0) :=
  pk_loop (fun f i s => wL_lawOf_15 post mc ms x0 x2 kc ks n f (nI i) s) (fun _ s => ∀ j, ∃ t, t < 256 ∧ s j = ap_b t) n 0 (fun _ => 0) (by omega) (fun _ => ⟨0, by omega, ap_0⟩)
    (fun f s h => pk_le n n (fun _ => ap_last h2 h8 hp h) (fun z => absurd z (by omega)))
    (fun f i s hi h hw => pk_le n i (fun z => absurd z (by omega)) (fun _ => ⟨pk_in i n hi, nm_e (nm_r (nI_1 i) (hw _ (ap_put h)))⟩))
theorem ap_lawOf {post : Int32 → St0 → Prop} {u : St0} {p0 p1 p2 : Int32} (hp : post 1 ()) : wpL_lawOf post 1 8 u p0 p1 p2 := by
  obtain ⟨j, hj, ej⟩ := pk_andE p1 (m := 7) 3 (by decide)
  have hm : j % 7 < 7 := Nat.mod_lt _ (by omega)
  have e : (2 : Int32) + ((p1 &&& 7) - (p1 &&& 7) / 7 * 7) = nI (2 + j % 7) := by
    have k : nI j - nI j / 7 * 7 = nI (j % 7) := pk_rem (a := j) (d := 7) (by omega) (by omega) (by omega)
    rw [ej, k]
    exact nI_add 2 (j % 7)
  unfold wpL_lawOf
  rw [e, nI_clamp (show 2 + j % 7 < 2 ^ 31 by omega)]
  exact ⟨by decide, nI_pos (by omega), nm_e ⟨by omega, by omega, by omega, ap_15 (by omega) (by omega) hp⟩⟩
theorem ap_cell {post : Int32 → Prop} {L : Nat} {xs : Nat → Int32} {u : St0} (k : Nat) (hL : L ≤ 3) (hk : k < 3) (h : ∀ r, post r) : wpL_cellAt post L xs u (nI k) :=
  pk_le L k (fun _ => h _) (fun z => ⟨vp_in_nI z (by omega), h _⟩)
theorem i_vc (xs : Nat → Int32) (L : Nat) (hL : L ≤ 3) : wpL_law (fun r => r = 1) L xs :=
  ap_cell 0 hL (by omega) (fun _ => ap_cell 1 hL (by omega) (fun _ => ap_cell 2 hL (by omega) (fun _ => ⟨1, 8, by omega, by omega, ap_lawOf rfl⟩)))
end
