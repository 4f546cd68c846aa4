section
/-! ===== the plain law: one row's mask, its slices, the count of ones ===== -/
/-- the mask of row r -/
def sl_m (r : Nat) : Int64 := (1 : Int64) <<< ((nI r).toInt64 &&& 63)
/-- what slice digit b holds for row r alone, the column's value k -/
def sl_v (r k b : Nat) : Int64 := if k / 2 ^ b % 2 = 1 then sl_m r else 0
/-- the count of ones as the class works it out -/
def sl_o1 (p : Int64) : Int64 := p - (((p.toUInt64 >>> ((1 : Int32).toInt64.toUInt64 &&& Int64.toUInt64 63)).toInt64) &&& 6148914691236517205)
def sl_o2 (p : Int64) : Int64 := (p &&& 3689348814741910323) + (((p.toUInt64 >>> ((2 : Int32).toInt64.toUInt64 &&& Int64.toUInt64 63)).toInt64) &&& 3689348814741910323)
def sl_o3 (p : Int64) : Int64 := (p + ((p.toUInt64 >>> ((4 : Int32).toInt64.toUInt64 &&& Int64.toUInt64 63)).toInt64)) &&& 1085102592571150095
def sl_o4 (p : Int64) : Int32 := (((p * 72340172838076673).toUInt64 >>> ((56 : Int32).toInt64.toUInt64 &&& Int64.toUInt64 63)).toInt64).toInt32
def sl_on (p : Int64) : Int32 := sl_o4 (sl_o3 (sl_o2 (sl_o1 p)))
theorem sl_on0 : sl_on 0 = nI 0 := by decide +kernel
theorem sl_onm : ∀ r, r < 64 → sl_on (sl_m r) = nI 1 := by decide +kernel
theorem sl_mnot : ∀ r, r < 64 → sl_m r &&& (sl_m r ^^^ (-1)) = 0 := by decide +kernel
theorem sl_mall : ∀ r, r < 64 → sl_m r &&& (0 ^^^ (-1)) = sl_m r := by decide +kernel
theorem sl_mand (r : Nat) : sl_m r &&& sl_m r = sl_m r := Int64.and_self
theorem sl_mz (r : Nat) : sl_m r &&& 0 = 0 := Int64.and_zero
theorem sl_sh0 : ∀ r, r < 64 → (nI 0).toInt64 <<< ((nI r).toInt64 &&& 63) = 0 := by decide +kernel
theorem sl_sh1 : ∀ r, r < 64 → (nI 1).toInt64 <<< ((nI r).toInt64 &&& 63) = sl_m r := by decide +kernel
theorem sl_was : ∀ r, r < 64 → (((sl_m r).toUInt64 >>> ((nI r).toInt64.toUInt64 &&& Int64.toUInt64 63)).toInt64).toInt32 &&& 1 = 1 := by decide +kernel
/-- the search for the row, one halving: width 2^j, low = r without its last j + 1 digits -/
theorem sl_half : ∀ j, j < 6 → ∀ r, r < 64 → sl_on ((((sl_m r).toUInt64 >>> ((nI (r / 2 ^ (j + 1) * 2 ^ (j + 1))).toInt64.toUInt64 &&& Int64.toUInt64 63)).toInt64) &&& (((1 : Int64) <<< ((nI (2 ^ (j + 1) / 2)).toInt64 &&& 63)) - 1)) = nI (1 - r / 2 ^ j % 2) := by decide +kernel
theorem sl_half0 : ∀ j, j < 6 → ∀ r, r < 64 → r / 2 ^ j % 2 = 0 → r / 2 ^ (j + 1) * 2 ^ (j + 1) = r / 2 ^ j * 2 ^ j := by decide +kernel
theorem sl_half1 : ∀ j, j < 6 → ∀ r, r < 64 → r / 2 ^ j % 2 = 1 → r / 2 ^ (j + 1) * 2 ^ (j + 1) + 2 ^ (j + 1) / 2 = r / 2 ^ j * 2 ^ j := by decide +kernel
theorem sl_width : ∀ j, j < 6 → nI (2 ^ (j + 1) / 2) / 2 = nI (2 ^ j / 2) := by decide +kernel
theorem sl_wpos : ∀ j, j < 6 → ¬ nI (2 ^ (j + 1) / 2) ≤ 0 := by decide +kernel
/-- digits of a value below 256, from the top: kept in place (ranked), or pushed (sum) -/
theorem sl_dg0 : ∀ b, b < 8 → ∀ k, k < 256 → k / 2 ^ b % 2 = 0 → k / 2 ^ (b + 1) * 2 ^ (b + 1) = k / 2 ^ b * 2 ^ b := by decide +kernel
theorem sl_dg1 : ∀ b, b < 8 → ∀ k, k < 256 → k / 2 ^ b % 2 = 1 → nI (k / 2 ^ (b + 1) * 2 ^ (b + 1)) ||| ((1 : Int32) <<< (nI b &&& 31)) = nI (k / 2 ^ b * 2 ^ b) := by decide +kernel
theorem sl_ps : ∀ b, b < 8 → ∀ k, k < 256 → 2 * (k / 2 ^ (b + 1)) + k / 2 ^ b % 2 = k / 2 ^ b := by decide +kernel
theorem sl_shc : ∀ b, b < 8 → (((nI b).toUInt32 &&& Int32.toUInt32 31).toBitVec % 32).toNat = b := by decide +kernel
theorem sl_mod (n b : Nat) (hb : b < 8) : n / 2 ^ b % 2 = n % 256 / 2 ^ b % 2 := by
  have h : b = 0 ∨ b = 1 ∨ b = 2 ∨ b = 3 ∨ b = 4 ∨ b = 5 ∨ b = 6 ∨ b = 7 := by omega
  rcases h with rfl | rfl | rfl | rfl | rfl | rfl | rfl | rfl <;> omega
/-- the low byte of an int, as a natural -/
def sl_k (v : Int32) : Nat := v.toBitVec.toNat % 256
theorem sl_k_lt (v : Int32) : sl_k v < 256 := Nat.mod_lt _ (by decide)
theorem sl_k_and (v : Int32) : v &&& 255 = nI (sl_k v) := pk_and v 8 (by decide)
theorem sl_bit (v : Int32) (b : Nat) (hb : b < 8) : (v.toUInt32 >>> ((nI b).toUInt32 &&& Int32.toUInt32 31)).toInt32 &&& 1 = nI (sl_k v / 2 ^ b % 2) := by
  rw [pk_and _ 1 (by decide), pk_ushr v (nI b) b (sl_shc b hb), Nat.pow_one, sl_mod _ b hb]
  rfl
theorem sl_cell (r : Nat) (hr : r < 64) (v : Int32) (b : Nat) (hb : b < 8) (x : Int64) : ((0 : Int64) &&& x) ||| ((((v.toUInt32 >>> ((nI b).toUInt32 &&& Int32.toUInt32 31)).toInt32) &&& 1).toInt64 <<< ((nI r).toInt64 &&& 63)) = sl_v r (sl_k v) b := by
  rw [Int64.zero_and, Int64.zero_or, sl_bit v b hb]
  unfold sl_v
  have h : sl_k v / 2 ^ b % 2 = 0 ∨ sl_k v / 2 ^ b % 2 = 1 := by omega
  rcases h with h | h
  · rw [h, if_neg (by decide)]
    exact sl_sh0 r hr
  · rw [h, if_pos rfl]
    exact sl_sh1 r hr
theorem sl_ix (c b : Nat) : (8 : Int32) * nI c + nI b = nI (8 * c + b) := by
  rw [show (8 : Int32) = nI 8 from rfl, pk_mul, nI_add]
/-- the picture of the slices: row r alone holds a + c in column c -/
def sl_S (r : Nat) (v : Int32) (a1 : Nat → Int64) : Prop := ∀ c, c < 3 → ∀ b, b < 8 → a1 (8 * c + b) = sl_v r (sl_k (v + nI c)) b
end
section
/-! ===== one lemma a method ===== -/
section
variable {p l e : Int64} {q : Int32} {a1 : Nat → Int64} {a2 a3 a4 a5 a6 : Nat → Int32} {a7 : Nat → Int64} {a8 : Nat → Int32} {a9 a10 a11 : Nat → Int64}
theorem sl_fill {s : Nat → Int64} {r k c i : Nat} (h : (∀ j, (j < 8 * c ∨ 8 * c + i ≤ j) → s j = a1 j) ∧ ∀ b, b < i → s (8 * c + b) = sl_v r k b) :
    (∀ j, (j < 8 * c ∨ 8 * c + (i + 1) ≤ j) → vp_updL s (8 * c + i) (sl_v r k i) j = a1 j) ∧ ∀ b, b < i + 1 → vp_updL s (8 * c + i) (sl_v r k i) (8 * c + b) = sl_v r k b := by
  refine ⟨fun j hj => ?_, fun b hb => ?_⟩
  · rw [pk_uLn (by omega)]
    exact h.1 j (by omega)
  · by_cases z : b = i
    · subst z
      exact pk_uLs
    · rw [pk_uLn (by omega)]
      exact h.2 b (by omega)
theorem sl_setColumn {post : St2 → Prop} {r c : Nat} (hr : r < 64) (hc : c < 3) (v : Int32) (h0 : ∀ b, b < 8 → a1 (8 * c + b) = 0)
    (H : ∀ s : Nat → Int64, (∀ j, (j < 8 * c ∨ 8 * c + 8 ≤ j) → s j = a1 j) → (∀ b, b < 8 → s (8 * c + b) = sl_v r (sl_k v) b) → post (p, q, l, e, s, a2, a3, a4, a5, a6, a7, a8, a9, a10, a11)) :
    wpX_setColumn post (p, q, l, e, a1, a2, a3, a4, a5, a6, a7, a8, a9, a10, a11) (nI r) (nI c) v :=
  pk_loop (fun n i s => wX_setColumn_3 post (nI r) (nI c) v p q l e n (nI i) s a2 a3 a4 a5 a6 a7 a8 a9 a10 a11)
    (fun i s => (∀ j, (j < 8 * c ∨ 8 * c + i ≤ j) → s j = a1 j) ∧ ∀ b, b < i → s (8 * c + b) = sl_v r (sl_k v) b) 8 0 a1 (by omega) ⟨fun _ _ => rfl, fun b hb => absurd hb (by omega)⟩
    (fun n s h => pk_le 8 8 (fun _ => H s h.1 h.2) (fun z => absurd z (by omega)))
    (fun n i s hi h hw => pk_le 8 i (fun z => absurd z (by omega)) (fun _ => nm_r (sl_ix c i) ⟨pk_in (8 * c + i) 24 (by omega), pk_in (8 * c + i) 24 (by omega),
      nm_r (e' := vp_updL s (8 * c + i) (sl_v r (sl_k v) i)) (by rw [nI_clamp (by omega), h.1 (8 * c + i) (Or.inr (Nat.le_refl _)), h0 i hi, sl_cell r hr v i hi]) (nm_r (nI_1 i) (hw _ (sl_fill h)))⟩))
theorem sl_forget {post : St2 → Prop} (H : ∀ t : Nat → Int32, post (p, q, l, e, a1, a2, a3, a4, a5, a6, a7, t, a9, a10, a11)) : wpX_forgetAnswers post (p, q, l, e, a1, a2, a3, a4, a5, a6, a7, a8, a9, a10, a11) :=
  pk_loop (fun n i s => wX_forgetAnswers_2 post p q l e n (nI i) a1 a2 a3 a4 a5 a6 a7 s a9 a10 a11) (fun _ _ => True) 16 0 a8 (by omega) trivial
    (fun n s _ => pk_le 16 16 (fun _ => H s) (fun z => absurd z (by omega)))
    (fun n i s hi _ hw => pk_le 16 i (fun z => absurd z (by omega)) (fun _ => ⟨pk_in i 16 hi, nm_e (nm_r (nI_1 i) (hw _ trivial))⟩))
theorem sl_three {r : Nat} {v : Int32} {s1 s2 s3 : Nat → Int64} (k1 : ∀ b, b < 8 → s1 (8 * 0 + b) = sl_v r (sl_k v) b)
    (h2 : ∀ j, (j < 8 * 1 ∨ 8 * 1 + 8 ≤ j) → s2 j = s1 j) (k2 : ∀ b, b < 8 → s2 (8 * 1 + b) = sl_v r (sl_k (v + 1)) b)
    (h3 : ∀ j, (j < 8 * 2 ∨ 8 * 2 + 8 ≤ j) → s3 j = s2 j) (k3 : ∀ b, b < 8 → s3 (8 * 2 + b) = sl_v r (sl_k (v + 2)) b) : sl_S r v s3 := by
  intro c hc b hb
  have h : c = 0 ∨ c = 1 ∨ c = 2 := by omega
  rcases h with rfl | rfl | rfl
  · rw [h3 _ (by omega), h2 _ (by omega), k1 b hb, nI_0, Int32.add_zero]
  · rw [h3 _ (by omega), k2 b hb]
    rfl
  · rw [k3 b hb]
    rfl
theorem sl_put_ok {post : Int32 → St2 → Prop} {r : Nat} (hr : r < 64) (v : Int32) (h0 : ∀ j, a1 j = 0) (H : ∀ (s : Nat → Int64) (t : Nat → Int32), sl_S r v s → post 0 (sl_m r, q, l, e, s, a2, a3, a4, a5, a6, a7, t, a9, a10, a11)) :
    wpX_put post (0, q, l, e, a1, a2, a3, a4, a5, a6, a7, a8, a9, a10, a11) (nI r) v (v + 1) (v + 2) :=
  br_f (nI_pos (by omega)) (br_t (nI_le (b := 63) (by omega) (by decide)) (nm_r (e' := sl_m r) Int64.zero_or
    (sl_setColumn (c := 0) hr (by omega) v (fun b _ => h0 _) (fun s1 h1 k1 =>
      sl_setColumn (c := 1) hr (by omega) (v + 1) (fun b hb => (h1 _ (by omega)).trans (h0 _)) (fun s2 h2 k2 =>
        sl_setColumn (c := 2) hr (by omega) (v + 2) (fun b hb => (h2 _ (by omega)).trans ((h1 _ (by omega)).trans (h0 _))) (fun s3 h3 k3 =>
          sl_forget (fun t => H s3 t (sl_three k1 h2 k2 h3 k3))))))))
theorem sl_bad {x : Int32} (hx : x < 0 ∨ 63 < x) {A B : Prop} (H : A) : (x < 0 → A) ∧ (¬ x < 0 → ((x ≤ 63 → B) ∧ (¬ x ≤ 63 → A))) :=
  br_c (fun _ => H) (fun z => br_f (Int32.not_le.mpr (hx.resolve_left z)) H)
theorem sl_put_bad {post : Int32 → St2 → Prop} {x v v1 v2 : Int32} (hx : x < 0 ∨ 63 < x) (H : post (-1) (p, q, l, e, a1, a2, a3, a4, a5, a6, a7, a8, a9, a10, a11)) : wpX_put post (p, q, l, e, a1, a2, a3, a4, a5, a6, a7, a8, a9, a10, a11) x v v1 v2 := sl_bad hx H
theorem sl_drop_ok {post : Int32 → St2 → Prop} {r : Nat} (hr : r < 64) (H : ∀ (g : Int64) (t : Nat → Int32), post 1 (g, q, l, e, a1, a2, a3, a4, a5, a6, a7, t, a9, a10, a11)) : wpX_drop post (sl_m r, q, l, e, a1, a2, a3, a4, a5, a6, a7, a8, a9, a10, a11) (nI r) :=
  br_f (nI_pos (by omega)) (br_t (nI_le (b := 63) (by omega) (by decide)) (nm_r (sl_was r hr) (nm_e (sl_forget (fun t => H _ t)))))
theorem sl_drop_bad {post : Int32 → St2 → Prop} {x : Int32} (hx : x < 0 ∨ 63 < x) (H : post (-1) (p, q, l, e, a1, a2, a3, a4, a5, a6, a7, a8, a9, a10, a11)) : wpX_drop post (p, q, l, e, a1, a2, a3, a4, a5, a6, a7, a8, a9, a10, a11) x := sl_bad hx H
theorem sl_ones {post : Int32 → Prop} {x : Int64} {y : Int32} (hx : sl_on x = y) (H : post y) : wpX_ones post () x := by
  subst hx
  exact nm_e (nm_e (nm_e H))
theorem sl_col {post : Int32 → Prop} {c : Nat} (hc : c < 3) (H : post 1) : wpX_isColumn post () (nI c) := br_f (nI_pos (by omega)) (br_f (nI_nlt (a := 2) (by omega) (by decide)) H)
theorem sl_nocol {post : Int32 → Prop} {x : Int32} (hx : x < 0 ∨ 2 < x) (H : post 0) : wpX_isColumn post () x := br_c (fun _ => H) (fun z => br_t (hx.resolve_left z) H)
theorem sl_cond {post : Int32 → Prop} (hq : ¬ q ≤ -1) (H : post 1) : wpX_isCondition post (p, q, l, e, a1, a2, a3, a4, a5, a6, a7, a8, a9, a10, a11) (-1) := br_f (by decide) (br_f hq H)
theorem sl_rows {post : Int64 → St2 → Prop} (H : post p (p, q, l, e, a1, a2, a3, a4, a5, a6, a7, a8, a9, a10, a11)) : wpX_rowsOf post (p, q, l, e, a1, a2, a3, a4, a5, a6, a7, a8, a9, a10, a11) (-1) := br_f (by decide) H
/-! ranked -/
theorem sl_rankL {post : Int32 → St2 → Prop} {r c k : Nat} (hr : r < 64) (hc : c < 3) (hk : k < 256) (hA : ∀ b, b < 8 → a1 (8 * c + b) = sl_v r k b) (H : post (nI k) (p, q, l, e, a1, a2, a3, a4, a5, a6, a7, a8, a9, a10, a11)) :
    ∃ n, wX_ranked_49 post (nI c) p q l e a1 a2 a3 a4 a5 a6 a7 a8 a9 a10 a11 n (sl_m r) 0 0 7 := by
  have h : wX_ranked_49 post (nI c) p q l e a1 a2 a3 a4 a5 a6 a7 a8 a9 a10 a11 9 (sl_m r) (nI 0) (nI (k / 2 ^ 8 * 2 ^ 8)) (nI 8 + (-1)) := by
    refine pk_loopD (σ := Unit) (fun n i _ => wX_ranked_49 post (nI c) p q l e a1 a2 a3 a4 a5 a6 a7 a8 a9 a10 a11 n (sl_m r) (nI 0) (nI (k / 2 ^ i * 2 ^ i)) (nI i + (-1))) (fun i _ => i ≤ 8) ?_ ?_ 8 () (Nat.le_refl 8)
    · intro n _ _
      have ee : nI (k / 2 ^ 0 * 2 ^ 0) = nI k := by rw [Nat.pow_zero, Nat.div_one, Nat.mul_one]
      exact br_t (by decide) (ek_v (P := fun z => post z (p, q, l, e, a1, a2, a3, a4, a5, a6, a7, a8, a9, a10, a11)) ee H)
    · intro n i _ hi hw
      have hb : i < 8 := hi
      have hw' : wX_ranked_49 post (nI c) p q l e a1 a2 a3 a4 a5 a6 a7 a8 a9 a10 a11 n (sl_m r) (nI 0) (nI (k / 2 ^ i * 2 ^ i)) (nI i + (-1)) := hw () (Nat.le_of_lt hb)
      show wX_ranked_49 post (nI c) p q l e a1 a2 a3 a4 a5 a6 a7 a8 a9 a10 a11 (n + 1) (sl_m r) (nI 0) (nI (k / 2 ^ (i + 1) * 2 ^ (i + 1))) (nI (i + 1) + (-1))
      rw [pk_m1]
      have hin : vp_in (8 * nI c + nI i) 24 := by
        rw [sl_ix]
        exact vp_in_nI (by omega) (by decide)
      have hv : a1 (8 * nI c + nI i).toNatClampNeg = sl_v r k i := by
        rw [sl_ix, nI_clamp (by omega)]
        exact hA i hb
      refine br_f (nI_pos (by omega)) ⟨hin, ?_⟩
      rcases Nat.mod_two_eq_zero_or_one (k / 2 ^ i) with z | z
      · have hv0 : sl_v r k i = 0 := if_neg (by rw [z]; decide)
        refine nm_r (e' := sl_m r) (by rw [hv, hv0]; exact sl_mall r hr) (sl_ones (sl_onm r hr) (br_f (by decide) (nm_e ?_)))
        rw [sl_dg0 i hb k hk z]
        exact hw'
      · have hv1 : sl_v r k i = sl_m r := if_pos z
        exact nm_r (e' := 0) (by rw [hv, hv1]; exact sl_mnot r hr) (sl_ones sl_on0 (br_t (by decide) (nm_r (e' := nI 0) (by decide) ⟨hin, nm_r (e' := sl_m r) (by rw [hv, hv1]; exact sl_mand r) (nm_r (sl_dg1 i hb k hk z) (nm_e hw'))⟩)))
  rw [show k / 2 ^ 8 * 2 ^ 8 = 0 by omega] at h
  exact ⟨9, h⟩
theorem sl_ranked_ok {post : Int32 → St2 → Prop} {r c k : Nat} (hr : r < 64) (hc : c < 3) (hk : k < 256) (hq : ¬ q ≤ -1) (hA : ∀ b, b < 8 → a1 (8 * c + b) = sl_v r k b) (H : post (nI k) (sl_m r, q, l, e, a1, a2, a3, a4, a5, a6, a7, a8, a9, a10, a11)) :
    wpX_ranked post (sl_m r, q, l, e, a1, a2, a3, a4, a5, a6, a7, a8, a9, a10, a11) (-1) (nI c) 0 := by
  unfold wpX_ranked
  exact sl_col hc (br_f (by decide) (sl_cond hq (br_f (by decide) (br_t (by decide) (sl_rows (sl_ones (sl_onm r hr) (br_t (by decide) (sl_rankL hr hc hk hA H))))))))
theorem sl_ranked_none {post : Int32 → St2 → Prop} {c : Nat} (hc : c < 3) (hq : ¬ q ≤ -1) (H : post (-1) (0, q, l, e, a1, a2, a3, a4, a5, a6, a7, a8, a9, a10, a11)) : wpX_ranked post (0, q, l, e, a1, a2, a3, a4, a5, a6, a7, a8, a9, a10, a11) (-1) (nI c) 0 := by
  unfold wpX_ranked
  exact sl_col hc (br_f (by decide) (sl_cond hq (br_f (by decide) (br_t (by decide) (sl_rows (sl_ones sl_on0 (br_f (by decide) H)))))))
theorem sl_ranked_bad {post : Int32 → St2 → Prop} {x : Int32} (hx : x < 0 ∨ 2 < x) (H : post (-1) (p, q, l, e, a1, a2, a3, a4, a5, a6, a7, a8, a9, a10, a11)) : wpX_ranked post (p, q, l, e, a1, a2, a3, a4, a5, a6, a7, a8, a9, a10, a11) (-1) x 0 := by
  unfold wpX_ranked
  exact sl_nocol hx (br_t rfl H)
/-! row -/
theorem sl_rowL {post : Int32 → St2 → Prop} {r : Nat} (hr : r < 64) (H : post (nI r) (p, q, l, e, a1, a2, a3, a4, a5, a6, a7, a8, a9, a10, a11)) : ∃ n, wX_row_40 post (sl_m r) p q l e a1 a2 a3 a4 a5 a6 a7 a8 a9 a10 a11 n 0 0 32 := by
  have h : wX_row_40 post (sl_m r) p q l e a1 a2 a3 a4 a5 a6 a7 a8 a9 a10 a11 7 (nI (r / 2 ^ 6 * 2 ^ 6)) (nI 0) (nI (2 ^ 6 / 2)) := by
    refine pk_loopD (σ := Unit) (fun n i _ => wX_row_40 post (sl_m r) p q l e a1 a2 a3 a4 a5 a6 a7 a8 a9 a10 a11 n (nI (r / 2 ^ i * 2 ^ i)) (nI 0) (nI (2 ^ i / 2))) (fun i _ => i ≤ 6) ?_ ?_ 6 () (Nat.le_refl 6)
    · intro n _ _
      have ee : nI (r / 2 ^ 0 * 2 ^ 0) = nI r := by rw [Nat.pow_zero, Nat.div_one, Nat.mul_one]
      exact br_t (by decide) (ek_v (P := fun z => post z (p, q, l, e, a1, a2, a3, a4, a5, a6, a7, a8, a9, a10, a11)) ee H)
    · intro n j _ hi hw
      have hj : j < 6 := hi
      have hw' : wX_row_40 post (sl_m r) p q l e a1 a2 a3 a4 a5 a6 a7 a8 a9 a10 a11 n (nI (r / 2 ^ j * 2 ^ j)) (nI 0) (nI (2 ^ j / 2)) := hw () (Nat.le_of_lt hj)
      have ho := sl_half j hj r hr
      show wX_row_40 post (sl_m r) p q l e a1 a2 a3 a4 a5 a6 a7 a8 a9 a10 a11 (n + 1) (nI (r / 2 ^ (j + 1) * 2 ^ (j + 1))) (nI 0) (nI (2 ^ (j + 1) / 2))
      refine br_f (sl_wpos j hj) (nm_e ?_)
      rcases Nat.mod_two_eq_zero_or_one (r / 2 ^ j) with z | z
      · rw [z] at ho
        refine sl_ones ho (br_t (by decide) ⟨by decide, nm_r (sl_width j hj) ?_⟩)
        rw [sl_half0 j hj r hr z]
        exact hw'
      · rw [z] at ho
        exact sl_ones ho (br_f (by decide) (nm_r (e' := nI 0) (by decide) (nm_r (e' := nI (r / 2 ^ j * 2 ^ j)) (by rw [nI_add, sl_half1 j hj r hr z]) ⟨by decide, nm_r (sl_width j hj) hw'⟩)))
  rw [show r / 2 ^ 6 * 2 ^ 6 = 0 by omega] at h
  exact ⟨7, h⟩
theorem sl_row_ok {post : Int32 → St2 → Prop} {r : Nat} (hr : r < 64) (hq : ¬ q ≤ -1) (H : post (nI r) (sl_m r, q, l, e, a1, a2, a3, a4, a5, a6, a7, a8, a9, a10, a11)) : wpX_row post (sl_m r, q, l, e, a1, a2, a3, a4, a5, a6, a7, a8, a9, a10, a11) (-1) 0 := by
  unfold wpX_row
  exact sl_cond hq (br_f (by decide) (br_t (by decide) (sl_rows (sl_ones (sl_onm r hr) (br_t (by decide) (sl_rowL hr H))))))
theorem sl_row_none {post : Int32 → St2 → Prop} (hq : ¬ q ≤ -1) (H : post (-1) (0, q, l, e, a1, a2, a3, a4, a5, a6, a7, a8, a9, a10, a11)) : wpX_row post (0, q, l, e, a1, a2, a3, a4, a5, a6, a7, a8, a9, a10, a11) (-1) 0 := by
  unfold wpX_row
  exact sl_cond hq (br_f (by decide) (br_t (by decide) (sl_rows (sl_ones sl_on0 (br_f (by decide) H)))))
/-! sum -/
theorem sl_lin {o x y z : Nat} (h : 2 * x + y = z) : 2 * (o * x) + o * y = o * z := by
  subst h
  rw [Nat.mul_add, Nat.mul_left_comm]
theorem sl_sumL {post : Int32 → St2 → Prop} {c k o : Nat} {m : Int64} {y : Int32} (hc : c < 3) (hk : k < 256) (hm : sl_on m = nI o) (hA : ∀ b, b < 8 → m &&& a1 (8 * c + b) = if k / 2 ^ b % 2 = 1 then m else 0) (hy : nI (o * k) = y) (H : post y (p, q, l, e, a1, a2, a3, a4, a5, a6, a7, a8, a9, a10, a11)) :
    ∃ n, wX_sum_30 post (nI c) m p q l e a1 a2 a3 a4 a5 a6 a7 a8 a9 a10 a11 n 0 7 := by
  have h : wX_sum_30 post (nI c) m p q l e a1 a2 a3 a4 a5 a6 a7 a8 a9 a10 a11 9 (nI (o * (k / 2 ^ 8))) (nI 8 + (-1)) := by
    refine pk_loopD (σ := Unit) (fun n i _ => wX_sum_30 post (nI c) m p q l e a1 a2 a3 a4 a5 a6 a7 a8 a9 a10 a11 n (nI (o * (k / 2 ^ i))) (nI i + (-1))) (fun i _ => i ≤ 8) ?_ ?_ 8 () (Nat.le_refl 8)
    · intro n _ _
      have ee : nI (o * (k / 2 ^ 0)) = y := by rw [Nat.pow_zero, Nat.div_one, hy]
      exact br_t (by decide) (ek_v (P := fun z => post z (p, q, l, e, a1, a2, a3, a4, a5, a6, a7, a8, a9, a10, a11)) ee H)
    · intro n i _ hi hw
      have hb : i < 8 := hi
      have hw' : wX_sum_30 post (nI c) m p q l e a1 a2 a3 a4 a5 a6 a7 a8 a9 a10 a11 n (nI (o * (k / 2 ^ i))) (nI i + (-1)) := hw () (Nat.le_of_lt hb)
      show wX_sum_30 post (nI c) m p q l e a1 a2 a3 a4 a5 a6 a7 a8 a9 a10 a11 (n + 1) (nI (o * (k / 2 ^ (i + 1)))) (nI (i + 1) + (-1))
      rw [pk_m1]
      have hin : vp_in (8 * nI c + nI i) 24 := by
        rw [sl_ix]
        exact vp_in_nI (by omega) (by decide)
      have hv : sl_on (m &&& a1 (8 * nI c + nI i).toNatClampNeg) = nI (o * (k / 2 ^ i % 2)) := by
        rw [sl_ix, nI_clamp (by omega), hA i hb]
        rcases Nat.mod_two_eq_zero_or_one (k / 2 ^ i) with z | z
        · rw [z, if_neg (by decide), Nat.mul_zero]
          exact sl_on0
        · rw [z, if_pos rfl, Nat.mul_one]
          exact hm
      have hs : (2 : Int32) * nI (o * (k / 2 ^ (i + 1))) + nI (o * (k / 2 ^ i % 2)) = nI (o * (k / 2 ^ i)) := by
        rw [show (2 : Int32) = nI 2 from rfl, pk_mul, nI_add, sl_lin (sl_ps i hb k hk)]
      exact br_f (nI_pos (by omega)) ⟨hin, sl_ones hv (nm_r hs (nm_e hw'))⟩
  rw [show k / 2 ^ 8 = 0 by omega, Nat.mul_zero] at h
  exact ⟨9, h⟩
theorem sl_sum_ok {post : Int32 → St2 → Prop} {c k o : Nat} {y : Int32} (hc : c < 3) (hk : k < 256) (hq : ¬ q ≤ -1) (hm : sl_on p = nI o) (hA : ∀ b, b < 8 → p &&& a1 (8 * c + b) = if k / 2 ^ b % 2 = 1 then p else 0) (hy : nI (o * k) = y) (H : post y (p, q, l, e, a1, a2, a3, a4, a5, a6, a7, a8, a9, a10, a11)) :
    wpX_sum post (p, q, l, e, a1, a2, a3, a4, a5, a6, a7, a8, a9, a10, a11) (-1) (nI c) := by
  unfold wpX_sum
  exact sl_col hc (br_f (by decide) (sl_cond hq (br_f (by decide) (sl_rows (sl_sumL hc hk hm hA hy H)))))
theorem sl_sum_bad {post : Int32 → St2 → Prop} {x : Int32} (hx : x < 0 ∨ 2 < x) (H : post (-1) (p, q, l, e, a1, a2, a3, a4, a5, a6, a7, a8, a9, a10, a11)) : wpX_sum post (p, q, l, e, a1, a2, a3, a4, a5, a6, a7, a8, a9, a10, a11) (-1) x := by
  unfold wpX_sum
  exact sl_nocol hx (br_t rfl H)
theorem sl_and0 (k b : Nat) (x : Int64) : (0 : Int64) &&& x = if k / 2 ^ b % 2 = 1 then 0 else 0 := by
  rw [Int64.zero_and]
  split <;> rfl
theorem sl_andm (r k b : Nat) : sl_m r &&& sl_v r k b = if k / 2 ^ b % 2 = 1 then sl_m r else 0 := by
  unfold sl_v
  split
  · exact sl_mand r
  · exact sl_mz r
/-! compare -/
theorem sl_make {post : Int32 → St2 → Prop} {y0 y1 y2 y3 y4 : Int32} (H : ∀ (s2 s3 s4 s5 s6 s8 : Nat → Int32), post 0 (p, 1, l, e, a1, s2, s3, s4, s5, s6, a7, s8, a9, a10, a11)) : wpX_make post (p, 0, l, e, a1, a2, a3, a4, a5, a6, a7, a8, a9, a10, a11) y0 y1 y2 y3 y4 :=
  have hin : vp_in (0 : Int32) 16 := pk_in 0 16 (by decide)
  br_t (by decide) ⟨hin, nm_e ⟨hin, nm_e ⟨hin, nm_e ⟨hin, nm_e ⟨hin, nm_e ⟨hin, nm_e (nm_r (e' := 1) (by decide) (H _ _ _ _ _ _))⟩⟩⟩⟩⟩⟩
theorem sl_compare_ok {post : Int32 → St2 → Prop} {c : Nat} {h k : Int32} (hc : c < 3) (h0 : ¬ h < 0) (h5 : h ≤ 5) (H : ∀ (s2 s3 s4 s5 s6 s8 : Nat → Int32), post 0 (p, 1, l, e, a1, s2, s3, s4, s5, s6, a7, s8, a9, a10, a11)) : wpX_compare post (p, 0, l, e, a1, a2, a3, a4, a5, a6, a7, a8, a9, a10, a11) (nI c) h k := by
  unfold wpX_compare
  exact sl_col hc (br_f (by decide) (br_f h0 (br_t h5 (sl_make H))))
theorem sl_compare_how {post : Int32 → St2 → Prop} {c : Nat} {h k : Int32} (hc : c < 3) (hh : h < 0 ∨ 5 < h) (H : post (-1) (p, q, l, e, a1, a2, a3, a4, a5, a6, a7, a8, a9, a10, a11)) : wpX_compare post (p, q, l, e, a1, a2, a3, a4, a5, a6, a7, a8, a9, a10, a11) (nI c) h k := by
  unfold wpX_compare
  exact sl_col hc (br_f (by decide) (br_c (fun _ => H) (fun z => br_f (Int32.not_le.mpr (hh.resolve_left z)) H)))
theorem sl_compare_bad {post : Int32 → St2 → Prop} {x h k : Int32} (hx : x < 0 ∨ 2 < x) (H : post (-1) (p, q, l, e, a1, a2, a3, a4, a5, a6, a7, a8, a9, a10, a11)) : wpX_compare post (p, q, l, e, a1, a2, a3, a4, a5, a6, a7, a8, a9, a10, a11) x h k := by
  unfold wpX_compare
  exact sl_nocol hx (br_t rfl H)
end
end
section
/-! ===== the law, from its end to its head ===== -/
/-- the row: out of range and nothing there, or r with its slices -/
def sl_R (x0 x1 x6 : Int32) (p : Int64) (a1 : Nat → Int64) : Prop := (x6 = 0 ∧ (x0 < 0 ∨ 63 < x0) ∧ p = 0) ∨ (x6 = 1 ∧ ∃ r, r < 64 ∧ x0 = nI r ∧ p = sl_m r ∧ sl_S r x1 a1)
/-- the column: unknown, or c with its value -/
def sl_C (x1 x2 x7 x8 : Int32) : Prop := (x7 = 0 ∧ (x2 < 0 ∨ 2 < x2) ∧ x8 = -1) ∨ (x7 = 1 ∧ ∃ c, c < 3 ∧ x2 = nI c ∧ x8 = (x1 + nI c) &&& 255)
section
variable {p l e : Int64} {q : Int32} {a1 : Nat → Int64} {a2 a3 a4 a5 a6 : Nat → Int32} {a7 : Nat → Int64} {a8 : Nat → Int32} {a9 a10 a11 : Nat → Int64}
variable {post : Int32 → St0 → Prop} {mc ms kc ks : Nat} {x0 x1 x2 x3 x4 x6 x7 x8 : Int32}
theorem sl_197 (hp : post 1 ()) (hR : sl_R x0 x1 x6 p a1) (z : Int32) : wL_lawOf_197 post mc ms x0 x6 z z kc ks p q l e a1 a2 a3 a4 a5 a6 a7 a8 a9 a10 a11 := by
  unfold wL_lawOf_197
  refine br_t rfl ?_
  rcases hR with ⟨rfl, hx, rfl⟩ | ⟨rfl, r, hr, rfl, rfl, hS⟩
  · exact sl_drop_bad hx (br_t rfl (br_t rfl hp))
  · exact sl_drop_ok hr (fun g t => br_f (by decide) (br_t rfl hp))
theorem sl_167 (hp : post 1 ()) (hq : ¬ q ≤ -1) (hR : sl_R x0 x1 x6 p a1) (hC : sl_C x1 x2 x7 x8) (z : Int32) : wL_lawOf_167 post mc ms x0 x2 x6 x7 x8 z z kc ks p q l e a1 a2 a3 a4 a5 a6 a7 a8 a9 a10 a11 := by
  unfold wL_lawOf_167
  refine br_t rfl ?_
  rcases hC with ⟨rfl, hx, rfl⟩ | ⟨rfl, c, hc, rfl, rfl⟩
  · exact sl_sum_bad hx (br_t rfl (sl_197 hp hR _))
  · have hR' := hR
    rcases hR with ⟨rfl, hx, rfl⟩ | ⟨rfl, r, hr, rfl, rfl, hS⟩
    · exact sl_sum_ok (o := 0) (k := 0) (y := 0) hc (by decide) hq sl_on0 (fun b _ => sl_and0 0 b _) rfl (br_f (by decide) (br_t rfl (sl_197 hp hR' _)))
    · exact sl_sum_ok (o := 1) (k := sl_k (x1 + nI c)) (y := (x1 + nI c) &&& 255) hc (sl_k_lt _) hq (sl_onm r hr) (fun b hb => by rw [hS c hc b hb]; exact sl_andm r _ b) (by rw [Nat.one_mul, sl_k_and]) (br_f (by decide) (br_f (by decide) (sl_197 hp hR' _)))
theorem sl_145 (hp : post 1 ()) (hq : ¬ q ≤ -1) (hR : sl_R x0 x1 x6 p a1) (hC : sl_C x1 x2 x7 x8) (z : Int32) : wL_lawOf_145 post mc ms x0 x2 x6 x7 x8 z z kc ks p q l e a1 a2 a3 a4 a5 a6 a7 a8 a9 a10 a11 := by
  unfold wL_lawOf_145
  refine br_t rfl ?_
  have hR' := hR
  rcases hR with ⟨rfl, hx, rfl⟩ | ⟨rfl, r, hr, rfl, rfl, hS⟩
  · exact sl_row_none hq (br_t rfl (sl_167 hp hq hR' hC _))
  · exact sl_row_ok hr hq (br_f (by decide) (sl_167 hp hq hR' hC _))
theorem sl_144 (hp : post 1 ()) (hq : ¬ q ≤ -1) (hR : sl_R x0 x1 x6 p a1) (hC : sl_C x1 x2 x7 x8) : wL_lawOf_144 post mc ms x0 x2 x6 x7 x8 (-1) kc ks p q l e a1 a2 a3 a4 a5 a6 a7 a8 a9 a10 a11 := by
  unfold wL_lawOf_144
  exact sl_145 hp hq hR hC (-1)
theorem sl_112 (hp : post 1 ()) (hR : sl_R x0 x1 x6 p a1) (hC : sl_C x1 x2 x7 x8) (hq : q = 0) (z : Int32) : wL_lawOf_112 post mc ms x0 x2 x3 x4 x6 x7 x8 z z kc ks p q l e a1 a2 a3 a4 a5 a6 a7 a8 a9 a10 a11 := by
  subst hq
  unfold wL_lawOf_112
  refine br_t rfl ?_
  have hC' := hC
  rcases hC with ⟨rfl, hx, rfl⟩ | ⟨rfl, c, hc, rfl, rfl⟩
  · exact sl_compare_bad hx (br_t rfl (sl_144 hp (by decide) hR hC'))
  · by_cases h0 : x3 < 0
    · exact sl_compare_how hc (Or.inl h0) (br_f (by decide) (br_t h0 (sl_144 hp (by decide) hR hC')))
    · by_cases h5 : 5 < x3
      · exact sl_compare_how hc (Or.inr h5) (br_f (by decide) (br_f h0 (br_t h5 (sl_144 hp (by decide) hR hC'))))
      · exact sl_compare_ok hc h0 (Int32.not_lt.mp h5) (fun s2 s3 s4 s5 s6 s8 => br_f (by decide) (br_f h0 (br_f h5 (sl_145 hp (by decide) hR hC' 0))))
theorem sl_111 (hp : post 1 ()) (hR : sl_R x0 x1 x6 p a1) (hC : sl_C x1 x2 x7 x8) (hq : q = 0) : wL_lawOf_111 post mc ms x0 x2 x3 x4 x6 x7 x8 (-1) kc ks p q l e a1 a2 a3 a4 a5 a6 a7 a8 a9 a10 a11 := by
  unfold wL_lawOf_111
  exact sl_112 hp hR hC hq (-1)
theorem sl_86 (hp : post 1 ()) (hR : sl_R x0 x1 x6 p a1) (hC : sl_C x1 x2 x7 x8) (hq : q = 0) : wL_lawOf_86 post mc ms x0 x2 x3 x4 x6 x7 x8 kc ks p q l e a1 a2 a3 a4 a5 a6 a7 a8 a9 a10 a11 := by
  subst hq
  unfold wL_lawOf_86
  have hC' := hC
  have hR' := hR
  rcases hC with ⟨rfl, hx, rfl⟩ | ⟨rfl, c, hc, rfl, rfl⟩
  · exact sl_ranked_bad hx (br_c (fun _ => sl_111 hp hR' hC' rfl) (fun _ => br_t rfl (sl_111 hp hR' hC' rfl)))
  · rcases hR with ⟨rfl, hx, rfl⟩ | ⟨rfl, r, hr, rfl, rfl, hS⟩
    · exact sl_ranked_none hc (by decide) (br_t rfl (sl_111 hp hR' hC' rfl))
    · refine sl_ranked_ok (k := sl_k (x1 + nI c)) hr hc (sl_k_lt _) (by decide) (hS c hc) ?_
      rw [← sl_k_and]
      exact br_f (by decide) (br_f (by decide) (sl_112 hp hR' hC' rfl _))
theorem sl_68 (hp : post 1 ()) (hR : sl_R x0 x1 x6 p a1) (hC : sl_C x1 x2 x7 x8) (hq : q = 0) : wL_lawOf_68 post mc ms x0 x1 x2 x3 x4 x6 x7 kc ks p q l e a1 a2 a3 a4 a5 a6 a7 a8 a9 a10 a11 := by
  unfold wL_lawOf_68
  have hC' := hC
  rcases hC with ⟨rfl, hx, rfl⟩ | ⟨rfl, c, hc, rfl, rfl⟩
  · exact br_t rfl (sl_86 hp hR hC' hq)
  · exact br_f (by decide) (sl_86 hp hR hC' hq)
theorem sl_67 (hp : post 1 ()) (hR : sl_R x0 x1 x6 p a1) (hx : x2 < 0 ∨ 2 < x2) (hq : q = 0) : wL_lawOf_67 post mc ms x0 x1 x2 x3 x4 x6 kc ks p q l e a1 a2 a3 a4 a5 a6 a7 a8 a9 a10 a11 := by
  unfold wL_lawOf_67
  exact sl_68 (x8 := -1) hp hR (Or.inl ⟨rfl, hx, rfl⟩) hq
theorem sl_49 (hp : post 1 ()) (hR : sl_R x0 x1 x6 p a1) (hq : q = 0) (z : Int32) : wL_lawOf_49 post mc ms x0 x1 x2 x3 x4 x6 z z kc ks p q l e a1 a2 a3 a4 a5 a6 a7 a8 a9 a10 a11 := by
  unfold wL_lawOf_49
  refine br_t rfl (br_c (fun h => sl_67 hp hR (Or.inl h) hq) (fun h0 => br_c (fun h => sl_67 hp hR (Or.inr h) hq) (fun h2 => ?_)))
  obtain ⟨c, hc, rfl⟩ := nI_of2 (M := 2) (n := 2) (by decide) h0 (Int32.not_lt.mp h2)
  exact sl_68 (x8 := (x1 + nI c) &&& 255) hp hR (Or.inr ⟨rfl, c, by omega, rfl, rfl⟩) hq
theorem sl_24_ok {r : Nat} (hp : post 1 ()) (hr : r < 64) (h0 : ∀ j, a1 j = 0) : wL_lawOf_24 post mc ms (nI r) x1 x2 x3 x4 1 kc ks 0 0 l e a1 a2 a3 a4 a5 a6 a7 a8 a9 a10 a11 := by
  unfold wL_lawOf_24
  exact sl_put_ok hr x1 h0 (fun s t hS => br_f (by decide) (sl_49 hp (Or.inr ⟨rfl, r, hr, rfl, rfl, hS⟩) rfl 0))
theorem sl_23 (hp : post 1 ()) (hx : x0 < 0 ∨ 63 < x0) : wL_lawOf_23 post mc ms x0 x1 x2 x3 x4 kc ks 0 0 l e a1 a2 a3 a4 a5 a6 a7 a8 a9 a10 a11 := by
  unfold wL_lawOf_23 wL_lawOf_24
  exact sl_put_bad hx (br_t rfl (sl_49 hp (Or.inl ⟨rfl, hx, rfl⟩) rfl (-1)))
end
theorem sl_lawOf {post : Int32 → St0 → Prop} (hp : post 1 ()) (y0 y1 y2 y3 y4 : Int32) : wpL_lawOf post 12 288 () y0 y1 y2 y3 y4 := by
  refine ⟨by decide, by decide, 11, 273, by decide, by decide, ?_⟩
  refine ⟨by decide, by decide, by decide, by decide, by decide, by decide, by decide, by decide, by decide, by decide, by decide, by decide, by decide, by decide, by decide, by decide, by decide, by decide, by decide, by decide, by decide, by decide, ?_⟩
  refine br_c (fun h => sl_23 hp (Or.inl h)) (fun h0 => br_c (fun h => sl_23 hp (Or.inr h)) (fun h2 => ?_))
  obtain ⟨r, hr, rfl⟩ := nI_of2 (M := 63) (n := 63) (by decide) h0 (Int32.not_lt.mp h2)
  exact sl_24_ok hp (by omega) (fun _ => rfl)
theorem sl_cellAt {post : Int32 → Prop} {L : Nat} (hL : L ≤ 5) (xs : Nat → Int32) (j : Nat) (hj : j ≤ 4) {x : Int32} (hx : x = nI j) (H : ∀ y, post y) : wpL_cellAt post L xs () x := by
  subst hx
  exact pk_le L j (fun _ => H 0) (fun z => ⟨pk_in j L z, H _⟩)
theorem i_vc (xs : Nat → Int32) (L : Nat) (hL : L ≤ 5) : wpL_law (fun r => r = 1) L xs := by
  unfold wpL_law
  exact sl_cellAt hL xs 0 (by decide) rfl (fun y0 => sl_cellAt hL xs 1 (by decide) rfl (fun y1 => sl_cellAt hL xs 2 (by decide) rfl (fun y2 => sl_cellAt hL xs 3 (by decide) rfl (fun y3 => sl_cellAt hL xs 4 (by decide) rfl (fun y4 =>
    ⟨12, 288, by decide, by decide, sl_lawOf rfl y0 y1 y2 y3 y4⟩)))))
end
