section
/-- the narrow layout: the member of block k, its place on the disk, the place of row r's parity -/
def rq_mem (k : Nat) : Nat := if k % 2 < k / 2 % 3 then k % 2 else k % 2 + 1
def rq_pos (k : Nat) : Nat := rq_mem k * 16 + k / 2
def rq_par (r : Nat) : Nat := r % 3 * 16 + r
theorem rq_shr : ∀ k, k < 24 → nI k >>> ((1 : Int32) &&& 31) = nI (k / 2) := by decide +kernel
theorem rq_rem : ∀ r, r < 12 → nI r - nI r / 3 * 3 = nI (r % 3) := by decide +kernel
theorem rq_and : ∀ k, k < 24 → nI k &&& 1 = nI (k % 2) := by decide +kernel
theorem rq_at : ∀ k, k < 24 → nI (rq_mem k) * 16 + nI (k / 2) = nI (rq_pos k) := by decide +kernel
theorem rq_pat : ∀ r, r < 12 → nI (r % 3) * 16 + nI r = nI (rq_par r) := by decide +kernel
theorem rq_lt : ∀ k, k < 24 → rq_pos k < 80 := by decide +kernel
theorem rq_plt : ∀ r, r < 12 → rq_par r < 80 := by decide +kernel
theorem rq_inj : ∀ k, k < 24 → ∀ j, j < 24 → rq_pos k = rq_pos j → k = j := by decide +kernel
theorem rq_pp : ∀ k, k < 24 → ∀ r, r < 12 → rq_pos k ≠ rq_par r := by decide +kernel
theorem rq_pinj : ∀ r, r < 12 → ∀ q, q < 12 → rq_par r = rq_par q → r = q := by decide +kernel
theorem rq_mne : ∀ k, k < 24 → ¬ nI (rq_mem k) = -1 := by decide +kernel
theorem rq_pne : ∀ r, r < 12 → ¬ nI (r % 3) = -1 := by decide +kernel
theorem rq_one : ∀ r, r < 12 → ¬ nI r = -1 := by decide +kernel
theorem rq_lay : ∀ r, r < 12 → (r % 3 = 0 ∧ rq_par r = 0 * 16 + r ∧ rq_pos (2 * r) = 1 * 16 + r ∧ rq_pos (2 * r + 1) = 2 * 16 + r)
    ∨ (r % 3 = 1 ∧ rq_par r = 1 * 16 + r ∧ rq_pos (2 * r) = 0 * 16 + r ∧ rq_pos (2 * r + 1) = 2 * 16 + r)
    ∨ (r % 3 = 2 ∧ rq_par r = 2 * 16 + r ∧ rq_pos (2 * r) = 0 * 16 + r ∧ rq_pos (2 * r + 1) = 1 * 16 + r) := by decide +kernel
/-- exclusive or -/
theorem rq_x1 (p x v : Int32) : p ^^^ x ^^^ x ^^^ v = p ^^^ v := by
  rw [Int32.xor_assoc p x x, Int32.xor_self, Int32.xor_zero]
theorem rq_x2 (x y v : Int32) : x ^^^ y ^^^ x ^^^ v = v ^^^ y := by
  rw [Int32.xor_comm x y, Int32.xor_assoc y x x, Int32.xor_self, Int32.xor_zero, Int32.xor_comm]
theorem rq_x3 (x y : Int32) : x ^^^ y ^^^ x ^^^ y = 0 := by
  rw [Int32.xor_comm x y, Int32.xor_assoc y x x, Int32.xor_self, Int32.xor_zero, Int32.xor_self]
theorem rq_x4 (x y : Int32) : x ^^^ (x ^^^ y) ^^^ y = 0 := by
  rw [← Int32.xor_assoc, Int32.xor_self, Int32.zero_xor, Int32.xor_self]
/-- the disk a holds the blocks D, and every row but q its right parity (q = 12: every row) -/
def rq_W (a D : Nat → Int32) (q : Nat) : Prop := (∀ k, k < 24 → a (rq_pos k) = D k) ∧ (∀ r, r < 12 → r ≠ q → a (rq_par r) = D (2 * r) ^^^ D (2 * r + 1))
theorem rq_weak {a D : Nat → Int32} (q : Nat) (K : rq_W a D 12) : rq_W a D q := ⟨K.1, fun r hr _ => K.2 r hr (by omega)⟩
theorem rq_data {a D : Nat → Int32} {k : Nat} (v : Int32) (hk : k < 24) (K : rq_W a D 12) : rq_W (upd a (rq_pos k) v) (upd D k v) (k / 2) := by
  refine ⟨fun j hj => ?_, fun r hr hq => ?_⟩
  · by_cases e : j = k
    · rw [e, pk_us, pk_us]
    · rw [pk_un e, pk_un (fun z => e (rq_inj j hj k hk z))]
      exact K.1 j hj
  · rw [pk_un (fun z => rq_pp k hk r hr z.symm), pk_un (show 2 * r ≠ k by omega), pk_un (show 2 * r + 1 ≠ k by omega)]
    exact K.2 r hr (by omega)
theorem rq_fix {a D : Nat → Int32} {q : Nat} {x : Int32} (hq : q < 12) (K : rq_W a D q) (hx : x = D (2 * q) ^^^ D (2 * q + 1)) : rq_W (upd a (rq_par q) x) D 12 := by
  refine ⟨fun j hj => ?_, fun r hr _ => ?_⟩
  · rw [pk_un (rq_pp j hj q hq)]
    exact K.1 j hj
  · by_cases e : r = q
    · rw [e, pk_us, hx]
    · rw [pk_un (fun z => e (rq_pinj r hr q hq z))]
      exact K.2 r hr e
theorem rq_newpar {a D : Nat → Int32} {k : Nat} (v : Int32) (hk : k < 24) (K : rq_W a D 12) : a (rq_par (k / 2)) ^^^ a (rq_pos k) ^^^ v = upd D k v (2 * (k / 2)) ^^^ upd D k v (2 * (k / 2) + 1) := by
  rw [K.1 k hk, K.2 (k / 2) (by omega) (by omega)]
  rcases Nat.mod_two_eq_zero_or_one k with h | h
  · have e : 2 * (k / 2) = k := by omega
    rw [e, pk_us, pk_un (show k + 1 ≠ k by omega)]
    exact rq_x2 _ _ _
  · have e : 2 * (k / 2) + 1 = k := by omega
    rw [e, pk_us, pk_un (show 2 * (k / 2) ≠ k by omega)]
    exact rq_x1 _ _ _
/-- one turn of others' loop -/
def rq_st (a : Nat → Int32) (r : Nat) (b : Int32) (m : Nat) (x : Int32) : Int32 := if nI m = b then x else x ^^^ a (m * 16 + r)
theorem rq_sy {a : Nat → Int32} {r m : Nat} {b x : Int32} (h : nI m = b) : rq_st a r b m x = x := if_pos h
theorem rq_sn {a : Nat → Int32} {r m : Nat} {b x : Int32} (h : ¬ nI m = b) : rq_st a r b m x = x ^^^ a (m * 16 + r) := if_neg h
/-- a whole right row: nothing is over -/
theorem rq_all {a D : Nat → Int32} {r : Nat} (hr : r < 12) (K : rq_W a D 12) : rq_st a r (-1) 2 (rq_st a r (-1) 1 (rq_st a r (-1) 0 0)) = 0 := by
  rw [rq_sn (by decide), rq_sn (by decide), rq_sn (by decide), Int32.zero_xor]
  have h0 := K.1 (2 * r) (by omega)
  have h1 := K.1 (2 * r + 1) (by omega)
  have h2 := K.2 r hr (by omega)
  rcases rq_lay r hr with ⟨_, e2, e0, e1⟩ | ⟨_, e2, e0, e1⟩ | ⟨_, e2, e0, e1⟩
  · rw [e0] at h0; rw [e1] at h1; rw [e2] at h2
    rw [h0, h1, h2]
    exact rq_x3 _ _
  · rw [e0] at h0; rw [e1] at h1; rw [e2] at h2
    rw [h0, h1, h2]
    exact rq_x4 _ _
  · rw [e0] at h0; rw [e1] at h1; rw [e2] at h2
    rw [h0, h1, h2]
    exact Int32.xor_self
/-- a row but its parity: what the parity must be -/
theorem rq_rest {a D : Nat → Int32} {r q : Nat} (hr : r < 12) (K : rq_W a D q) : rq_st a r (nI (r % 3)) 2 (rq_st a r (nI (r % 3)) 1 (rq_st a r (nI (r % 3)) 0 0)) = D (2 * r) ^^^ D (2 * r + 1) := by
  have h0 := K.1 (2 * r) (by omega)
  have h1 := K.1 (2 * r + 1) (by omega)
  rcases rq_lay r hr with ⟨e, _, e0, e1⟩ | ⟨e, _, e0, e1⟩ | ⟨e, _, e0, e1⟩
  · rw [e0] at h0; rw [e1] at h1
    rw [e, rq_sy (m := 0) rfl, rq_sn (m := 1) (by decide), rq_sn (m := 2) (by decide), Int32.zero_xor, h0, h1]
  · rw [e0] at h0; rw [e1] at h1
    rw [e, rq_sn (m := 0) (by decide), rq_sy (m := 1) rfl, rq_sn (m := 2) (by decide), Int32.zero_xor, h0, h1]
  · rw [e0] at h0; rw [e1] at h1
    rw [e, rq_sn (m := 0) (by decide), rq_sn (m := 1) (by decide), rq_sy (m := 2) rfl, Int32.zero_xor, h0, h1]
/-- sums -/
theorem rq_su (D : Nat → Int32) (k : Nat) (v : Int32) (n : Nat) : (n ≤ k → bx_sum (upd D k v) n = bx_sum D n) ∧ (k < n → bx_sum (upd D k v) n = bx_sum D n - D k + v) := by
  induction n with
  | zero => exact ⟨fun _ => rfl, fun h => absurd h (by omega)⟩
  | succ n ih =>
    refine ⟨fun h => ?_, fun h => ?_⟩
    · show bx_sum (upd D k v) n + upd D k v n = bx_sum D n + D n
      rw [ih.1 (by omega), pk_un (show n ≠ k by omega)]
    · show bx_sum (upd D k v) n + upd D k v n = bx_sum D n + D n - D k + v
      by_cases e : n = k
      · rw [ih.1 (by omega), e, pk_us]
        grind
      · rw [ih.2 (by omega), pk_un e]
        grind
theorem rq_s0 (n : Nat) : bx_sum (fun _ => 0) n = 0 := by
  induction n with
  | zero => rfl
  | succ n ih =>
    show bx_sum (fun _ => 0) n + 0 = 0
    rw [ih]
    rfl
/-- the blocks after i turns of fill -/
def rq_D (b : Nat) (v t : Int32) : Nat → Nat → Int32
  | 0 => fun _ => 0
  | i + 1 => upd (rq_D b v t i) (b + i) (v + nI i * t)
theorem rq_Dv (b : Nat) (v t : Int32) (n j : Nat) : (¬ (b ≤ j ∧ j < b + n) → rq_D b v t n j = 0) ∧ (b ≤ j ∧ j < b + n → rq_D b v t n j = v + nI (j - b) * t) := by
  induction n with
  | zero => exact ⟨fun _ => rfl, fun h => absurd h (by omega)⟩
  | succ n ih =>
    refine ⟨fun h => ?_, fun h => ?_⟩
    · show upd (rq_D b v t n) (b + n) (v + nI n * t) j = 0
      rw [pk_un (show j ≠ b + n by omega)]
      exact ih.1 (by omega)
    · show upd (rq_D b v t n) (b + n) (v + nI n * t) j = _
      by_cases e : j = b + n
      · rw [e, pk_us, show b + n - b = n by omega]
      · rw [pk_un e]
        exact ih.2 (by omega)
theorem rq_tri (n : Nat) : (n + 1) * (n + 1 - 1) / 2 = n * (n - 1) / 2 + n := by
  cases n with
  | zero => rfl
  | succ m =>
    have h : (m + 1 + 1) * (m + 1 + 1 - 1) = (m + 1) * (m + 1 - 1) + (m + 1) * 2 := by
      show (m + 2) * (m + 1) = (m + 1) * m + (m + 1) * 2
      rw [← Nat.mul_add, Nat.mul_comm]
    rw [h, Nat.add_mul_div_right _ _ (by omega)]
theorem rq_Ds (b : Nat) (v t : Int32) (n : Nat) (h : b + n ≤ 24) : bx_sum (rq_D b v t n) 24 = nI n * v + nI (n * (n - 1) / 2) * t := by
  induction n with
  | zero =>
    show bx_sum (fun _ => 0) 24 = nI 0 * v + nI 0 * t
    rw [rq_s0, nI_0]
    grind
  | succ n ih =>
    show bx_sum (upd (rq_D b v t n) (b + n) (v + nI n * t)) 24 = _
    rw [(rq_su _ _ _ _).2 (by omega), ih (by omega), (rq_Dv b v t n (b + n)).1 (by omega), rq_tri, ← nI_add (n * (n - 1) / 2) n, ← nI_1 n]
    generalize nI (n * (n - 1) / 2) = w
    generalize nI n = y
    clear ih h
    grind
/-- total, as the law computes it -/
theorem rq_tot {n : Nat} (v t : Int32) (h1 : 1 ≤ n) (h : n ≤ 24) : nI n * v + nI n * (nI n - 1) / 2 * t = nI n * v + nI (n * (n - 1) / 2) * t := by
  have e : ∀ n, n < 25 → 1 ≤ n → nI n * (nI n - 1) / 2 = nI (n * (n - 1) / 2) := by decide +kernel
  rw [e n (by omega) h1]
end
section
theorem rq_row {post : Int32 → Prop} {k : Nat} (hk : k < 24) (h : post (nI (k / 2))) : wpX_rowOf post () (nI k) 0 := by
  unfold wpX_rowOf
  rw [rq_shr k hk]
  exact br_t rfl h
theorem rq_member {post : Int32 → Prop} {k : Nat} (hk : k < 24) (h : post (nI (rq_mem k))) : wpX_memberOf post () (nI k) 0 := by
  unfold wpX_memberOf
  rw [rq_shr k hk]
  refine br_t rfl ?_
  unfold wX_memberOf_13
  rw [rq_rem (k / 2) (by omega)]
  refine br_t rfl ⟨by decide, ?_⟩
  unfold wX_memberOf_27
  rw [rq_and k hk]
  refine br_t rfl ?_
  unfold wX_memberOf_41
  refine pk_le (k / 2 % 3) (k % 2) (fun z => ?_) (fun z => ?_)
  · rw [nI_1]
    rw [rq_mem, if_neg (by omega)] at h
    exact h
  · rw [rq_mem, if_pos z] at h
    exact h
theorem rq_parity {post : Int32 → Prop} {r : Nat} (hr : r < 12) (h : post (nI (r % 3))) : wpX_parityOf post () (nI r) 0 := by
  unfold wpX_parityOf
  rw [rq_rem r hr]
  exact br_t rfl ⟨by decide, h⟩
theorem rq_narrow {post : Int32 → Prop} {f0 f1 f3 f4 f5 : Int32} {a1 a2 : Nat → Int32} {x : Int32} (h : post 0) : wpX_blockIsWide post (f0, f1, 0, f3, f4, f5, a1, a2) x := by
  unfold wpX_blockIsWide
  exact br_f (by decide) (br_f (by decide) h)
theorem rq_wide {post : Int32 → Prop} {f0 f1 f3 f4 f5 : Int32} {a1 a2 : Nat → Int32} {x : Int32} (h : post 0) : wpX_isWide post (f0, f1, 0, f3, f4, f5, a1, a2) x := by
  unfold wpX_isWide
  exact br_f (by decide) (br_f (by decide) h)
theorem rq_use {post : Int32 → Prop} {f0 f1 f3 f4 f5 : Int32} {a1 a2 : Nat → Int32} {x : Int32} (h : post 1) : wpX_inUse post (f0, f1, 0, f3, f4, f5, a1, a2) x := by
  unfold wpX_inUse
  exact br_f (by decide) h
theorem rq_size {post : Int32 → Prop} {f0 f1 f2 f4 f5 : Int32} {a1 a2 : Nat → Int32} (h : post 24) : wpX_size post (f0, f1, f2, 0, f4, f5, a1, a2) := by
  unfold wpX_size
  exact br_f (by decide) h
theorem rq_o1 {post : Int32 → Prop} {f0 f1 f2 f3 f4 f5 : Int32} {a1 a2 : Nat → Int32} {r : Nat} {b : Int32} (hr : r < 12) (n m : Nat) (x : Int32) (hm : m < 3)
    (h : wX_others_17 post (nI r) b 3 f0 f1 f2 f3 f4 f5 a1 a2 n (rq_st a1 r b m x) (nI (m + 1))) : wX_others_17 post (nI r) b 3 f0 f1 f2 f3 f4 f5 a1 a2 (n + 1) x (nI m) := by
  have ei : nI m * 16 + nI r = nI (m * 16 + r) := by
    rw [← nI_add, ← pk_mul]
    rfl
  unfold wX_others_17
  refine pk_le 3 m (fun z => absurd z (by omega)) (fun _ => br_c (fun e => nm_r (nI_1 m) ?_) (fun e => ⟨pk_in (m * 16 + r) 80 (by omega) ei, nm_r ?_ (nm_r (nI_1 m) h)⟩))
  · rw [rq_sy e] at h
    exact h
  · rw [pk_cl (m * 16 + r) ei (by omega), rq_sn e]
theorem rq_others {post : Int32 → Prop} {f0 f1 f2 f3 f4 f5 : Int32} {a1 a2 : Nat → Int32} {r : Nat} {b : Int32} (hr : r < 12) (h : post (rq_st a1 r b 2 (rq_st a1 r b 1 (rq_st a1 r b 0 0)))) : wpX_others post (f0, f1, f2, f3, f4, f5, a1, a2) (nI r) b 0 := by
  unfold wpX_others
  refine br_t rfl ⟨4, ?_⟩
  refine rq_o1 hr 3 0 0 (by omega) (rq_o1 hr 2 1 _ (by omega) (rq_o1 hr 1 2 _ (by omega) ?_))
  unfold wX_others_17
  exact pk_le 3 3 (fun _ => h) (fun z => absurd z (by omega))
theorem rq_from {post : Int32 → Prop} {f0 f2 f3 f4 f5 : Int32} {a1 a2 : Nat → Int32} {k : Nat} (hk : k < 24) (h : post (a1 (rq_pos k))) : wpX_fetchFrom post (f0, -1, f2, f3, f4, f5, a1, a2) (nI k) 0 := by
  have hl := rq_lt k hk
  unfold wpX_fetchFrom
  refine rq_row hk ?_
  refine rq_member hk ?_
  refine br_f (rq_mne k hk) ⟨pk_in (rq_pos k) 80 hl (rq_at k hk), ?_⟩
  rw [pk_cl (rq_pos k) (rq_at k hk) (by omega)]
  exact h
theorem rq_fetch {post : Int32 → Prop} {f0 f3 f4 f5 : Int32} {a1 a2 : Nat → Int32} {k : Nat} (hk : k < 24) (h : post (a1 (rq_pos k))) : wpX_fetch post (f0, -1, 0, f3, f4, f5, a1, a2) (nI k) := by
  unfold wpX_fetch
  refine rq_narrow ?_
  exact rq_from hk h
theorem rq_put {post : St2 → Prop} {f0 f2 f3 f4 f5 : Int32} {a1 a2 : Nat → Int32} {m r p : Nat} {v : Int32} (h1 : ¬ nI m = -1) (hp : p < 80) (e : nI m * 16 + nI r = nI p) (h : post (f0, -1, f2, f3, f4, f5, upd a1 p v, a2)) : wpX_put post (f0, -1, f2, f3, f4, f5, a1, a2) (nI m) (nI r) v := by
  unfold wpX_put
  exact br_f h1 ⟨pk_in p 80 hp e, nm_r (by rw [pk_cl p e (by omega)]) h⟩
theorem rq_store {post : St2 → Prop} {f0 f3 f4 f5 : Int32} {a1 a2 : Nat → Int32} {k : Nat} {v p : Int32} (hk : k < 24)
    (h0 : p = 0 → post (f0, -1, 0, f3, f4, nI (k / 2), a1, a2))
    (h1 : p = 1 → post (f0, -1, 0, f3, f4, nI (k / 2), upd a1 (rq_pos k) v, a2))
    (h2 : p = 2 → post (f0, -1, 0, f3, f4, nI (k / 2), upd (upd a1 (rq_pos k) v) (rq_par (k / 2)) (a1 (rq_par (k / 2)) ^^^ a1 (rq_pos k) ^^^ v), a2))
    (h3 : ¬ p = 0 → ¬ p = 1 → ¬ p = 2 → post (f0, -1, 0, f3, f4, -1, upd (upd a1 (rq_pos k) v) (rq_par (k / 2)) (a1 (rq_par (k / 2)) ^^^ a1 (rq_pos k) ^^^ v), a2)) :
    wpX_store post (f0, -1, 0, f3, f4, f5, a1, a2) (nI k) v p := by
  have hr : k / 2 < 12 := by omega
  have hl := rq_lt k hk
  have hq := rq_plt (k / 2) hr
  unfold wpX_store
  refine rq_narrow ?_
  refine rq_row hk ?_
  refine rq_member hk ?_
  refine rq_parity hr ?_
  refine rq_from hk ?_
  refine ⟨pk_in (rq_par (k / 2)) 80 hq (rq_pat (k / 2) hr), ?_⟩
  rw [pk_cl (rq_par (k / 2)) (rq_pat (k / 2) hr) (by omega)]
  refine nm_e ?_
  refine br_c h0 (fun n0 => ?_)
  refine rq_put (rq_mne k hk) hl (rq_at k hk) ?_
  refine br_c h1 (fun n1 => ?_)
  refine rq_put (rq_pne (k / 2) hr) hq (rq_pat (k / 2) hr) ?_
  exact br_c h2 (fun n2 => h3 n0 n1 n2)
/-- a whole store -/
theorem rq_store3 {post : St2 → Prop} {f0 f3 f4 f5 : Int32} {a1 a2 D : Nat → Int32} {k : Nat} {v : Int32} (hk : k < 24) (K : rq_W a1 D 12) (h : ∀ a, rq_W a (upd D k v) 12 → post (f0, -1, 0, f3, f4, -1, a, a2)) :
    wpX_store post (f0, -1, 0, f3, f4, f5, a1, a2) (nI k) v 3 :=
  rq_store hk (fun z => absurd z (by decide)) (fun z => absurd z (by decide)) (fun z => absurd z (by decide)) (fun _ _ _ => h _ (rq_fix (by omega) (rq_data v hk K) (rq_newpar v hk K)))
theorem rq_fill47 {post : Int32 → St2 → Prop} {f0 f3 f4 : Int32} {a1 a2 : Nat → Int32} {b c : Nat} {v t : Int32} (hb : b + c ≤ 24) (K : rq_W a1 (fun _ => 0) 12) (h : ∀ a, rq_W a (rq_D b v t c) 12 → post 0 (f0, -1, 0, f3, f4, -1, a, a2)) :
    ∃ n, wX_fill_47 post (nI b) (nI c) v t n 0 f0 (-1) 0 f3 f4 (-1) a1 a2 := by
  refine pk_loop (fun n i s => wX_fill_47 post (nI b) (nI c) v t n (nI i) f0 (-1) 0 f3 f4 (-1) s a2) (fun i s => rq_W s (rq_D b v t i) 12) c 0 a1 (by omega) K ?_ ?_
  · intro n s hs
    exact pk_le c c (fun _ => h s hs) (fun z => absurd z (by omega))
  · intro n i s hi hs hw
    refine pk_le c i (fun z => absurd z (by omega)) (fun _ => ?_)
    rw [nI_add]
    refine rq_store3 (by omega) hs (fun a ha => ?_)
    exact nm_r (nI_1 i) (hw a ha)
theorem rq_sum {post : Int32 → Prop} {f0 f4 f5 : Int32} {a1 a2 D : Nat → Int32} {q : Nat} (hf : ¬ f0 = 0) (K : rq_W a1 D q) (h : post (bx_sum D 24)) : wpX_sum post (f0, -1, 0, 0, f4, f5, a1, a2) := by
  unfold wpX_sum
  refine br_f hf ?_
  refine rq_size ?_
  refine pk_loop (fun n i s => wX_sum_18 post 24 f0 (-1) 0 0 f4 f5 a1 a2 n s (nI i)) (fun i s => s = bx_sum D i) 24 0 0 (by omega) rfl ?_ ?_
  · intro n s hs
    refine pk_le 24 24 (fun _ => ?_) (fun z => absurd z (by omega))
    rw [hs]
    exact h
  · intro n i s hi hs hw
    refine pk_le 24 i (fun z => absurd z (by omega)) (fun _ => ?_)
    refine rq_fetch hi ?_
    refine nm_r (e' := bx_sum D (i + 1)) ?_ (nm_r (nI_1 i) (hw _ rfl))
    rw [hs, K.1 i hi]
    rfl
theorem rq_isb1 {post : Int32 → Prop} {f0 f1 f2 f4 f5 : Int32} {a1 a2 : Nat → Int32} {k : Nat} (hk : k < 24) (h : post 1) : wpX_isBlock post (f0, f1, f2, 0, f4, f5, a1, a2) (nI k) := by
  unfold wpX_isBlock
  refine rq_size ?_
  exact br_f (nI_pos (by omega)) (pk_le 24 k (fun z => absurd z (by omega)) (fun _ => h))
theorem rq_isb0 {post : Int32 → Prop} {f0 f1 f2 f4 f5 x : Int32} {a1 a2 : Nat → Int32} (hx : x < 0 ∨ 24 ≤ x) (h : post 0) : wpX_isBlock post (f0, f1, f2, 0, f4, f5, a1, a2) x := by
  unfold wpX_isBlock
  refine rq_size ?_
  refine br_c (fun _ => h) (fun n => ?_)
  exact br_t (hx.resolve_left n) h
/-- what block x holds, or 0 where there is none -/
def rq_R (D : Nat → Int32) (x y : Int32) : Prop := (∃ c : Nat, c < 24 ∧ x = nI c ∧ y = D c) ∨ ((x < 0 ∨ 24 ≤ x) ∧ y = 0)
theorem rq_read {post : Int32 → Prop} {f0 f4 f5 x y : Int32} {a1 a2 D : Nat → Int32} {q : Nat} (hf : ¬ f0 = 0) (K : rq_W a1 D q) (R : rq_R D x y) (h : post y) : wpX_read post (f0, -1, 0, 0, f4, f5, a1, a2) x := by
  unfold wpX_read
  refine br_f hf ?_
  rcases R with ⟨c, hc, rfl, rfl⟩ | ⟨hx, rfl⟩
  · refine rq_isb1 hc ?_
    refine br_f (by decide) ?_
    refine rq_fetch hc ?_
    rw [K.1 c hc]
    exact h
  · refine rq_isb0 hx ?_
    exact br_t rfl h
theorem rq_readD {post : Int32 → Prop} {f1 f2 f3 f4 f5 x : Int32} {a1 a2 : Nat → Int32} (h : post 0) : wpX_read post (0, f1, f2, f3, f4, f5, a1, a2) x := by
  unfold wpX_read
  exact br_t rfl h
theorem rq_scrub {post : Int32 → Prop} {f0 f3 f4 f5 : Int32} {a1 a2 D : Nat → Int32} (hf : ¬ f0 = 0) (K : rq_W a1 D 12) (h : post 0) : wpX_scrub post (f0, -1, 0, f3, f4, f5, a1, a2) := by
  unfold wpX_scrub
  refine br_f hf (br_t rfl ?_)
  refine pk_loop (σ := Unit) (fun n i _ => wX_scrub_24 post f0 (-1) 0 f3 f4 f5 a1 a2 n 0 (nI i)) (fun _ _ => True) 12 0 () (by omega) trivial ?_ ?_
  · intro n _ _
    exact pk_le 12 12 (fun _ => h) (fun z => absurd z (by omega))
  · intro n i _ hi _ hw
    refine pk_le 12 i (fun z => absurd z (by omega)) (fun _ => ?_)
    refine rq_use ?_
    refine br_f (by decide) ?_
    refine rq_wide ?_
    refine rq_others hi ?_
    exact br_t (rq_all hi K) (nm_r (nI_1 i) (hw () trivial))
theorem rq_mend {post : St2 → Prop} {f0 f2 f3 f4 f5 : Int32} {a1 a2 D : Nat → Int32} {r : Nat} (hr : r < 12) (K : rq_W a1 D r) (h : ∀ a, rq_W a D 12 → post (f0, -1, f2, f3, f4, f5, a, a2)) : wpX_mend post (f0, -1, f2, f3, f4, f5, a1, a2) (nI r) (nI (r % 3)) 0 := by
  unfold wpX_mend
  refine rq_others hr ?_
  refine rq_put (rq_pne r hr) (rq_plt r hr) (rq_pat r hr) ?_
  exact h _ (rq_fix hr K (rq_rest hr K))
theorem rq_m48 {post : Int32 → St2 → Prop} {f0 f1 f3 f5 : Int32} {a1 a2 : Nat → Int32} (h : post 0 (1, f1, 0, f3, 0, f5, a1, a2)) : wX_mount_48 post f0 f1 0 f3 0 f5 a1 a2 := by
  unfold wX_mount_48
  refine br_t rfl ?_
  unfold wX_mount_59
  exact br_f (by decide) h
/-- the state that a crash leaves: a row open, or none -/
def rq_C (a D : Nat → Int32) (o : Int32) : Prop := (o = -1 ∧ rq_W a D 12) ∨ ∃ r : Nat, r < 12 ∧ o = nI r ∧ rq_W a D r
theorem rq_mount {post : Int32 → St2 → Prop} {f3 o : Int32} {a1 a2 D : Nat → Int32} (C : rq_C a1 D o) (h : ∀ a, rq_W a D 12 → post 0 (1, -1, 0, f3, 0, -1, a, a2)) : wpX_mount post (0, -1, 0, f3, 0, o, a1, a2) := by
  unfold wpX_mount
  refine br_t rfl ?_
  rcases C with ⟨rfl, K⟩ | ⟨r, hr, rfl, K⟩
  · exact br_t rfl (rq_m48 (h a1 K))
  · refine br_f (rq_one r hr) ?_
    refine rq_wide ?_
    refine rq_parity hr ?_
    refine rq_mend hr K (fun a ha => ?_)
    exact rq_m48 (h a ha)
theorem rq_mountR {post : Int32 → St2 → Prop} {f0 f1 f2 f3 f4 f5 : Int32} {a1 a2 : Nat → Int32} (hf : ¬ f0 = 0) (h : post (-1) (f0, f1, f2, f3, f4, f5, a1, a2)) : wpX_mount post (f0, f1, f2, f3, f4, f5, a1, a2) := by
  unfold wpX_mount
  exact br_f hf h
/-- a crash while block k is written -/
theorem rq_crash {post : Int32 → St2 → Prop} {f0 f4 f5 : Int32} {a1 a2 D : Nat → Int32} {k p : Nat} {v : Int32} (hf : ¬ f0 = 0) (hk : k < 24) (hp : p ≤ 3) (K : rq_W a1 D 12)
    (h0 : p = 0 → ∀ o a, rq_C a D o → post 0 (0, -1, 0, 0, f4, o, a, a2))
    (h1 : 0 < p → ∀ o a, rq_C a (upd D k v) o → post 0 (0, -1, 0, 0, f4, o, a, a2)) :
    wpX_writeCrash post (f0, -1, 0, 0, f4, f5, a1, a2) (nI k) v (nI p) := by
  have hr : k / 2 < 12 := by omega
  unfold wpX_writeCrash
  refine br_f hf ?_
  refine rq_isb1 hk ?_
  refine br_f (by decide) ?_
  refine br_f (nI_pos (by omega)) ?_
  refine br_t (nI_le (b := 3) hp (by decide)) ?_
  refine br_t rfl ?_
  have eq0 : nI p = 0 → p = 0 := fun z => (nI_eq (b := 0) (by omega) (by omega)).mp z
  refine rq_store hk (fun z => ?_) (fun z => ?_) (fun z => ?_) (fun z _ _ => ?_)
  · exact h0 (eq0 z) _ _ (Or.inr ⟨k / 2, hr, rfl, rq_weak _ K⟩)
  · have e : p = 1 := (nI_eq (b := 1) (by omega) (by omega)).mp z
    exact h1 (by omega) _ _ (Or.inr ⟨k / 2, hr, rfl, rq_data v hk K⟩)
  · have e : p = 2 := (nI_eq (b := 2) (by omega) (by omega)).mp z
    exact h1 (by omega) _ _ (Or.inr ⟨k / 2, hr, rfl, rq_weak _ (rq_fix hr (rq_data v hk K) (rq_newpar v hk K))⟩)
  · have e : p ≠ 0 := fun e => z (by rw [e]; rfl)
    exact h1 (by omega) _ _ (Or.inl ⟨rfl, rq_fix hr (rq_data v hk K) (rq_newpar v hk K)⟩)
theorem rq_crash2 {post : Int32 → St2 → Prop} {f0 f1 f2 f4 f5 x v p : Int32} {a1 a2 : Nat → Int32} (hf : ¬ f0 = 0) (hx : x < 0 ∨ 24 ≤ x) (h : post (-2) (f0, f1, f2, 0, f4, f5, a1, a2)) : wpX_writeCrash post (f0, f1, f2, 0, f4, f5, a1, a2) x v p := by
  unfold wpX_writeCrash
  refine br_f hf ?_
  refine rq_isb0 hx ?_
  exact br_t rfl h
theorem rq_crash3 {post : Int32 → St2 → Prop} {f0 f1 f2 f4 f5 v p : Int32} {a1 a2 : Nat → Int32} {k : Nat} (hf : ¬ f0 = 0) (hk : k < 24) (hp : p < 0 ∨ 3 < p) (h : post (-3) (f0, f1, f2, 0, f4, f5, a1, a2)) : wpX_writeCrash post (f0, f1, f2, 0, f4, f5, a1, a2) (nI k) v p := by
  unfold wpX_writeCrash
  refine br_f hf ?_
  refine rq_isb1 hk ?_
  refine br_f (by decide) ?_
  refine br_c (fun _ => h) (fun n => ?_)
  exact br_f (Int32.not_le.mpr (hp.resolve_left n)) h
end
section
/-- the law's end: block, scrub, sum -/
theorem rq_327 {post : Int32 → St0 → Prop} {mc ms kc ks : Nat} {x4 x9 x12 z0 : Int32} {a1 a2 D : Nat → Int32} (hp : post 1 ()) (K : rq_W a1 D 12) (R : rq_R D x4 z0) (hs : bx_sum D 24 = x9 - x12 + z0) :
    wL_lawOf_327 post mc ms x4 x9 x12 z0 kc ks 1 (-1) 0 0 0 (-1) a1 a2 := by
  unfold wL_lawOf_327
  refine rq_read (by decide) K R ?_
  refine br_t rfl ?_
  refine rq_scrub (by decide) K ?_
  refine br_t rfl ?_
  refine rq_sum (by decide) K ?_
  exact br_t hs hp
/-- no crash: the array stays as it is -/
theorem rq_245 {post : Int32 → St0 → Prop} {mc ms kc ks : Nat} {x3 x4 x5 x9 x12 z : Int32} {a1 a2 D : Nat → Int32} (hp : post 1 ()) (K : rq_W a1 D 12) (R : rq_R D x4 x12) (hs : bx_sum D 24 = x9) :
    wL_lawOf_245 post mc ms x3 x4 x5 x9 x12 0 z z kc ks 1 (-1) 0 0 0 (-1) a1 a2 := by
  unfold wL_lawOf_245
  refine br_t rfl ?_
  unfold wpX_up
  refine br_f (by decide) ?_
  refine br_t rfl ?_
  unfold wL_lawOf_265
  refine br_t rfl ?_
  refine rq_read (by decide) K R ?_
  refine br_t rfl ?_
  unfold wL_lawOf_286
  refine br_t rfl ?_
  refine rq_mountR (by decide) ?_
  refine br_t rfl ?_
  unfold wL_lawOf_306
  refine br_t rfl ?_
  refine br_t rfl ?_
  unfold wL_lawOf_325
  refine rq_327 hp K R ?_
  rw [hs]
  grind
/-- behind a crash: the array is down, it is mounted, the block holds the old word or the new one -/
theorem rq_245c {post : Int32 → St0 → Prop} {mc ms kc ks p c : Nat} {x3 x9 o : Int32} {a1 a2 D D' : Nat → Int32} (hp : post 1 ()) (hc : c < 24) (h3 : p ≤ 3) (C : rq_C a1 D' o) (hs : bx_sum D 24 = x9)
    (hD : (p = 0 ∧ D' = D) ∨ (0 < p ∧ D' = upd D c x3)) :
    wL_lawOf_245 post mc ms x3 (nI c) (nI p) x9 (D c) 1 0 0 kc ks 0 (-1) 0 0 0 o a1 a2 := by
  unfold wL_lawOf_245
  refine br_t rfl ?_
  unfold wpX_up
  refine br_t rfl ?_
  refine br_f (by decide) ?_
  unfold wL_lawOf_265
  refine br_t rfl ?_
  refine rq_readD ?_
  refine br_f (by decide) ?_
  unfold wL_lawOf_286
  refine br_t rfl ?_
  refine rq_mount C (fun a K => ?_)
  refine br_f (by decide) ?_
  unfold wL_lawOf_306
  refine br_t rfl ?_
  refine br_f (by decide) ?_
  rcases hD with ⟨h0, rfl⟩ | ⟨h0, rfl⟩
  · refine br_t (nI_le (b := 0) (by omega) (by decide)) ?_
    unfold wL_lawOf_325
    refine rq_327 hp K (Or.inl ⟨c, hc, rfl, rfl⟩) ?_
    rw [hs]
    grind
  · refine br_f (nI_nle h0 (by omega)) ?_
    refine rq_327 hp K (Or.inl ⟨c, hc, rfl, pk_us.symm⟩) ?_
    rw [(rq_su D c x3 24).2 hc, hs]
theorem rq_195 {post : Int32 → St0 → Prop} {mc ms kc ks : Nat} {x3 x4 x5 x9 x10 x11 z0 : Int32} {a1 a2 D : Nat → Int32} (hp : post 1 ()) (K : rq_W a1 D 12) (hs : bx_sum D 24 = x9)
    (hin : (x10 = 0 ∧ (x4 < 0 ∨ 24 ≤ x4) ∧ z0 = 0) ∨ (x10 = 1 ∧ ∃ c : Nat, c < 24 ∧ x4 = nI c ∧ z0 = D c))
    (hkn : (x11 = 0 ∧ (x5 < 0 ∨ 3 < x5)) ∨ (x11 = 1 ∧ ∃ p : Nat, p ≤ 3 ∧ x5 = nI p)) :
    wL_lawOf_195 post mc ms x3 x4 x5 x9 x10 x11 z0 kc ks 1 (-1) 0 0 0 (-1) a1 a2 := by
  unfold wL_lawOf_195
  rcases hin with ⟨rfl, hx, rfl⟩ | ⟨rfl, c, hc, rfl, rfl⟩
  · refine br_t rfl ?_
    unfold wL_lawOf_211
    unfold wL_lawOf_212
    refine rq_crash2 (by decide) hx ?_
    refine br_t rfl ?_
    exact rq_245 hp K (Or.inr ⟨hx, rfl⟩) hs
  · refine br_f (by decide) ?_
    rcases hkn with ⟨rfl, hq⟩ | ⟨rfl, p, h3, rfl⟩
    · refine br_t rfl ?_
      unfold wL_lawOf_211
      unfold wL_lawOf_212
      refine rq_crash3 (by decide) hc hq ?_
      refine br_f (by decide) ?_
      refine br_t rfl ?_
      exact rq_245 hp K (Or.inl ⟨c, hc, rfl, rfl⟩) hs
    · refine br_f (by decide) ?_
      unfold wL_lawOf_212
      refine rq_crash (by decide) hc h3 K (fun h0 o a C => ?_) (fun h0 o a C => ?_)
      · refine br_f (by decide) ?_
        refine br_f (by decide) ?_
        exact rq_245c hp hc h3 C hs (Or.inl ⟨h0, rfl⟩)
      · refine br_f (by decide) ?_
        refine br_f (by decide) ?_
        exact rq_245c hp hc h3 C hs (Or.inr ⟨h0, rfl⟩)
/-- what fill has left -/
def rq_F (x0 x1 x2 x3 x8 : Int32) (D : Nat → Int32) : Prop := (x8 = 0 ∧ D = fun _ => 0) ∨ (x8 = 1 ∧ ∃ b n : Nat, b + n ≤ 24 ∧ x0 = nI b ∧ x1 = nI n ∧ D = rq_D b x2 x3 n)
theorem rq_157 {post : Int32 → St0 → Prop} {mc ms kc ks : Nat} {x0 x1 x2 x3 x4 x5 x8 x9 x10 x11 : Int32} {a1 a2 D : Nat → Int32} (hp : post 1 ()) (K : rq_W a1 D 12) (hs : bx_sum D 24 = x9) (F : rq_F x0 x1 x2 x3 x8 D)
    (hin : (x10 = 0 ∧ (x4 < 0 ∨ 24 ≤ x4)) ∨ (x10 = 1 ∧ ∃ c : Nat, c < 24 ∧ x4 = nI c))
    (hkn : (x11 = 0 ∧ (x5 < 0 ∨ 3 < x5)) ∨ (x11 = 1 ∧ ∃ p : Nat, p ≤ 3 ∧ x5 = nI p)) :
    wL_lawOf_157 post mc ms x0 x1 x2 x3 x4 x5 x8 x9 x10 x11 kc ks 1 (-1) 0 0 0 (-1) a1 a2 := by
  unfold wL_lawOf_157 wL_lawOf_194
  rcases hin with ⟨rfl, hx⟩ | ⟨rfl, c, hc, rfl⟩
  · exact br_t rfl (rq_195 hp K hs (Or.inl ⟨rfl, hx, rfl⟩) hkn)
  · refine br_f (by decide) ?_
    rcases F with ⟨rfl, rfl⟩ | ⟨rfl, b, n, hb, rfl, rfl, rfl⟩
    · exact br_t rfl (rq_195 hp K hs (Or.inr ⟨rfl, c, hc, rfl, rfl⟩) hkn)
    · refine br_f (by decide) ?_
      refine pk_lt c b (fun z => ?_) (fun z => ?_)
      · exact rq_195 hp K hs (Or.inr ⟨rfl, c, hc, rfl, ((rq_Dv b x2 x3 n c).1 (by omega)).symm⟩) hkn
      · refine pk_le (b + n) c (fun y => ?_) (fun y => ?_) (nI_add b n)
        · exact rq_195 hp K hs (Or.inr ⟨rfl, c, hc, rfl, ((rq_Dv b x2 x3 n c).1 (by omega)).symm⟩) hkn
        · refine rq_195 hp K hs (Or.inr ⟨rfl, c, hc, rfl, ?_⟩) hkn
          rw [(rq_Dv b x2 x3 n c).2 ⟨z, y⟩, pk_sub z, Int32.mul_comm]
theorem rq_139 {post : Int32 → St0 → Prop} {mc ms kc ks : Nat} {x0 x1 x2 x3 x4 x5 x8 x9 x10 : Int32} {a1 a2 D : Nat → Int32} (hp : post 1 ()) (K : rq_W a1 D 12) (hs : bx_sum D 24 = x9) (F : rq_F x0 x1 x2 x3 x8 D)
    (hin : (x10 = 0 ∧ (x4 < 0 ∨ 24 ≤ x4)) ∨ (x10 = 1 ∧ ∃ c : Nat, c < 24 ∧ x4 = nI c)) :
    wL_lawOf_139 post mc ms x0 x1 x2 x3 x4 x5 x8 x9 x10 kc ks 1 (-1) 0 0 0 (-1) a1 a2 := by
  unfold wL_lawOf_139 wL_lawOf_156
  refine br_c (fun h => rq_157 hp K hs F hin (Or.inl ⟨rfl, Or.inl h⟩)) (fun h => ?_)
  refine br_c (fun g => rq_157 hp K hs F hin (Or.inl ⟨rfl, Or.inr g⟩)) (fun g => ?_)
  obtain ⟨p, h3, e⟩ := nI_of2 (M := 3) (n := 3) (by decide) h (Int32.not_lt.mp g)
  exact rq_157 hp K hs F hin (Or.inr ⟨rfl, p, h3, e⟩)
theorem rq_108 {post : Int32 → St0 → Prop} {mc ms kc ks : Nat} {x0 x1 x2 x3 x4 x5 x8 x9 : Int32} {a1 a2 D : Nat → Int32} (hp : post 1 ()) (K : rq_W a1 D 12) (hs : bx_sum D 24 = x9) (F : rq_F x0 x1 x2 x3 x8 D) :
    wL_lawOf_108 post mc ms x0 x1 x2 x3 x4 x5 x8 x9 kc ks 1 (-1) 0 0 0 (-1) a1 a2 := by
  unfold wL_lawOf_108 wL_lawOf_138
  refine rq_sum (by decide) K ?_
  refine br_t hs ?_
  refine br_c (fun h => rq_139 hp K hs F (Or.inl ⟨rfl, Or.inl h⟩)) (fun h => ?_)
  refine br_c (fun g => rq_139 hp K hs F (Or.inl ⟨rfl, Or.inr g⟩)) (fun g => ?_)
  obtain ⟨c, hc, e⟩ : ∃ c : Nat, c < 24 ∧ x4 = nI c := by
    rcases pk_ix x4 (n := 24) (by omega) with z | z | z
    · exact absurd z h
    · exact absurd z g
    · exact z
  exact rq_139 hp K hs F (Or.inr ⟨rfl, c, hc, e⟩)
theorem rq_W0 : rq_W (fun _ => 0) (fun _ => 0) 12 := ⟨fun _ _ => rfl, fun _ _ _ => (by decide : (0 : Int32) = 0 ^^^ 0)⟩
/-- nothing was filled -/
theorem rq_81n {post : Int32 → St0 → Prop} {mc ms kc ks : Nat} {x0 x1 x2 x3 x4 x5 z : Int32} {a2 : Nat → Int32} (hp : post 1 ()) : wL_lawOf_81 post mc ms x0 x1 x2 x3 x4 x5 0 z z kc ks 1 (-1) 0 0 0 (-1) (fun _ => 0) a2 := by
  unfold wL_lawOf_81
  refine br_t rfl ?_
  refine br_t rfl ?_
  exact rq_108 hp rq_W0 (rq_s0 24) (Or.inl ⟨rfl, rfl⟩)
theorem rq_25 {post : Int32 → St0 → Prop} {mc ms kc ks n : Nat} {x0 x2 x3 x4 x5 : Int32} {a2 : Nat → Int32} (hp : post 1 ()) (h1 : 1 ≤ n) (hn : n ≤ 24) : wL_lawOf_25 post mc ms x0 (nI n) x2 x3 x4 x5 1 kc ks 1 (-1) 0 0 0 (-1) (fun _ => 0) a2 := by
  have en : ¬ nI n < 1 := nI_nlt (b := 1) h1 (by omega)
  have el : nI n ≤ 24 := nI_le (b := 24) hn (by decide)
  have es : (24 : Int32) - nI n = nI (24 - n) := pk_sub (a := 24) hn
  unfold wL_lawOf_25 wL_lawOf_48 wL_lawOf_49
  refine br_f (by decide) ?_
  refine br_c (fun h => ?_) (fun h => ?_)
  · unfold wpX_fill
    refine br_f (by decide) (br_f en (br_t el ?_))
    refine rq_size ?_
    refine br_t h ?_
    refine br_f (by decide) ?_
    refine br_t rfl ?_
    exact rq_81n hp
  · refine br_c (fun g => ?_) (fun g => ?_)
    · unfold wpX_fill
      refine br_f (by decide) (br_f en (br_t el ?_))
      refine rq_size ?_
      refine br_f h (br_f (Int32.not_le.mpr g) ?_)
      refine br_f (by decide) ?_
      refine br_t rfl ?_
      exact rq_81n hp
    · have g' : x0 ≤ 24 - nI n := Int32.not_lt.mp g
      obtain ⟨b, hb, e⟩ : ∃ b : Nat, b + n ≤ 24 ∧ x0 = nI b := by
        obtain ⟨b, hb, e⟩ := nI_of h
        rw [e, es, nI_leI hb (by omega)] at g'
        exact ⟨b, by omega, e⟩
      unfold wpX_fill
      refine br_f (by decide) (br_f en (br_t el ?_))
      refine rq_size ?_
      refine br_f h (br_t g' ?_)
      rw [e]
      refine rq_fill47 hb rq_W0 (fun a K => ?_)
      refine br_f (by decide) ?_
      refine br_f (by decide) ?_
      unfold wL_lawOf_81
      refine br_t rfl ?_
      refine br_f (by decide) ⟨by decide, ?_⟩
      refine rq_108 hp K ?_ (Or.inr ⟨rfl, b, n, hb, rfl, rfl, rfl⟩)
      rw [rq_Ds b x2 x3 n hb, rq_tot x2 x3 h1 hn]
theorem rq_24 {post : Int32 → St0 → Prop} {mc ms kc ks : Nat} {x0 x1 x2 x3 x4 x5 : Int32} {a2 : Nat → Int32} (hp : post 1 ()) (h : x1 < 1 ∨ 24 < x1) : wL_lawOf_24 post mc ms x0 x1 x2 x3 x4 x5 kc ks 1 (-1) 0 0 0 (-1) (fun _ => 0) a2 := by
  unfold wL_lawOf_24 wL_lawOf_25 wL_lawOf_48 wL_lawOf_49
  refine br_t rfl ?_
  unfold wpX_fill
  refine br_f (by decide) ?_
  refine br_c (fun _ => ?_) (fun g => ?_)
  · refine br_t rfl ?_
    exact rq_81n hp
  · refine br_f (Int32.not_le.mpr (h.resolve_left g)) ?_
    refine br_t rfl ?_
    exact rq_81n hp
theorem rq_lawOf {post : Int32 → St0 → Prop} (p0 p1 p2 p3 p4 p5 : Int32) (hp : post 1 ()) : wpL_lawOf post 52 816 () p0 p1 p2 p3 p4 p5 := by
  unfold wpL_lawOf
  refine ⟨by omega, by omega, 51, 808, by omega, by omega, ?_⟩
  unfold wpX_init
  refine ⟨by omega, by omega, by omega, by omega, ?_⟩
  refine br_c (fun h => rq_24 hp (Or.inl h)) (fun h => ?_)
  refine br_c (fun g => rq_24 hp (Or.inr g)) (fun g => ?_)
  have h0 : ¬ p1 < 0 := by
    rw [Int32.lt_iff_toInt_lt] at h ⊢
    have e1 : (1 : Int32).toInt = 1 := by decide
    have e0 : (0 : Int32).toInt = 0 := by decide
    rw [e1] at h
    rw [e0]
    omega
  obtain ⟨n, hn, rfl⟩ := nI_of2 (M := 24) (n := 24) (by decide) h0 (Int32.not_lt.mp g)
  refine rq_25 hp ?_ hn
  rcases Nat.lt_or_ge n 1 with z | z
  · exact absurd (nI_lt (b := 1) z (by decide)) h
  · exact z
theorem rq_cell {post : Int32 → Prop} {L : Nat} {xs : Nat → Int32} (p : Nat) (hp : p < 6) (hL : L ≤ 6) (h : ∀ x, post x) : wpL_cellAt post L xs () (nI p) := by
  unfold wpL_cellAt
  exact pk_le L p (fun _ => h _) (fun z => ⟨pk_in p L z, h _⟩)
theorem i_vc (xs : Nat → Int32) (L : Nat) (hL : L ≤ 6) : wpL_law (fun r => r = 1) L xs := by
  unfold wpL_law
  refine rq_cell 0 (by omega) hL (fun r1 => ?_)
  refine rq_cell 1 (by omega) hL (fun r2 => ?_)
  refine rq_cell 2 (by omega) hL (fun r3 => ?_)
  refine rq_cell 3 (by omega) hL (fun r4 => ?_)
  refine rq_cell 4 (by omega) hL (fun r5 => ?_)
  refine rq_cell 5 (by omega) hL (fun r6 => ?_)
  exact ⟨52, 816, by omega, by omega, rq_lawOf r1 r2 r3 r4 r5 r6 rfl⟩
end
