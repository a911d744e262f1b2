section
/-! ===== lN to 2^62 under >> (kit/laws/BITS.to-paste, the pf_ family's first two rows) ===== -/
theorem pf_lI {a : Nat} (h : a < 2 ^ 63) : (lN a).toInt = (a : Int) := lg_ofNat_toInt h
theorem pf_shr {a d : Nat} {D : Int64} (hD : (D.toBitVec.smod 64).toNat = d) (h : a < 2 ^ 62) : lN a >>> D = lN (a / 2 ^ d) := by
  have hd : a / 2 ^ d ≤ a := Nat.div_le_self _ _
  apply Int64.toInt_inj.mp
  have e : (lN a >>> D).toInt = (lN a).toInt >>> d := by
    rw [← hD]
    exact BitVec.toInt_sshiftRight ..
  rw [e, Int.shiftRight_eq_div_pow, pf_lI (by omega), pf_lI (by omega)]
  rfl
/-! ===== a value made plain before it is handed on: the kernel meets a literal instead of a growing term ===== -/
def rf_f32 (x : Int32) (k : Int32 → Bool) : Bool := match x.toBitVec.toNat with
  | 0 => k (nI 0)
  | n + 1 => k (nI (n + 1))
def rf_f64 (x : Int64) (k : Int64 → Bool) : Bool := match x.toBitVec.toNat with
  | 0 => k (lN 0)
  | n + 1 => k (lN (n + 1))
theorem rf_n32 (x : Int32) : nI x.toBitVec.toNat = x := Int32.toBitVec_inj.mp (by show BitVec.ofNat 32 _ = _; simp)
theorem rf_n64 (x : Int64) : lN x.toBitVec.toNat = x := Int64.toBitVec_inj.mp (by show BitVec.ofNat 64 _ = _; simp)
theorem rf_e32 (x : Int32) (k : Int32 → Bool) : rf_f32 x k = k x := by
  have h : ∀ t, nI t = x → (match t with | 0 => k (nI 0) | n + 1 => k (nI (n + 1))) = k x := by
    intro t e
    subst e
    cases t <;> rfl
  exact h _ (rf_n32 x)
theorem rf_e64 (x : Int64) (k : Int64 → Bool) : rf_f64 x k = k x := by
  have h : ∀ t, lN t = x → (match t with | 0 => k (lN 0) | n + 1 => k (lN (n + 1))) = k x := by
    intro t e
    subst e
    cases t <;> rfl
  exact h _ (rf_n64 x)
/-- a branch of the evaluator meets a branch of a predicate -/
theorem rf_if {c : Prop} [Decidable c] {x y : Bool} {A B : Prop} (h : (if c then x else y) = true) (f : c → x = true → A) (g : ¬ c → y = true → B) : (c → A) ∧ (¬ c → B) :=
  ⟨fun hc => f hc (by rwa [if_pos hc] at h), fun hc => g hc (by rwa [if_neg hc] at h)⟩
theorem rf_no {A : Prop} (h : false = true) : A := nomatch h
/-! ===== bitsOf ===== -/
theorem rf_sm : ∀ k, k < 64 → (((nI k).toInt64 &&& 63).toBitVec.smod 64).toNat = k := by decide +kernel
theorem rf_bits_n {post : Int32 → Prop} {m k : Nat} (hm : m < 2 ^ 62) (hk : k ≤ 62) (h1 : m < 2 ^ k) (h2 : ∀ j, j < k → 2 ^ j ≤ m) (hp : post (nI k)) : wpX_bitsOf post () (lN m) :=
  pk_loop (σ := Unit) (fun n i _ => wX_bitsOf_2 post (lN m) n (nI i)) (fun _ _ => True) k 0 () (by omega) trivial
    (fun n _ _ => br_c (fun _ => hp) (fun _ => br_t (by rw [pf_shr (rf_sm k (by omega)) hm, Nat.div_eq_of_lt h1]; rfl) hp))
    (fun n i _ hi _ hw => br_f (nI_ge (b := 62) (by omega) (by decide)) (br_f (by
      rw [pf_shr (rf_sm i (by omega)) hm]
      intro z
      have hle : m / 2 ^ i ≤ m := Nat.div_le_self _ _
      have h3 : 0 < m / 2 ^ i := Nat.div_pos (h2 i hi) (Nat.pow_pos (by decide))
      have h4 := (pk_lEQ (a := m / 2 ^ i) (b := 0) (by omega) (by decide)).mp z
      omega) (nm_r (nI_1 i) (hw () trivial))))
/-- the number of bits of a long from 0 on -/
def rf_len (x : Int64) : Int32 := if x.toBitVec.toNat = 0 then 0 else nI (Nat.log2 x.toBitVec.toNat + 1)
theorem rf_bits {post : Int32 → Prop} {x : Int64} (hx : x.toBitVec.toNat < 4611686018427387904) (hp : post (rf_len x)) : wpX_bitsOf post () x := by
  have e := rf_n64 x
  unfold rf_len at hp
  generalize x.toBitVec.toNat = t at hx hp e
  subst e
  by_cases h0 : t = 0
  · rw [if_pos h0] at hp
    exact rf_bits_n (k := 0) (by omega) (by decide) (by omega) (fun j hj => absurd hj (by omega)) hp
  · rw [if_neg h0] at hp
    have hl : Nat.log2 t < 62 := (Nat.log2_lt h0).mpr (by omega)
    exact rf_bits_n (k := Nat.log2 t + 1) (by omega) (by omega) Nat.lt_log2_self (fun j hj => (Nat.le_log2 h0).mp (by omega)) hp
/-! ===== store ===== -/
def rf_st (k : Int64 → Int32 → Bool) : Nat → Int64 → Int32 → Int32 → Bool
  | 0 => fun _ _ _ => false
  | n + 1 => fun x6 x8 x9 => if 62 ≤ x9 then false else if x6 = 0 then k x6 x8 else if (x6 &&& 1) = 0 then rf_f64 (x6 >>> ((1 : Int32).toInt64 &&& 63)) (fun y6 => rf_f32 (x8 + 1) (fun y8 => rf_f32 (x9 + 1) (fun y9 => rf_st k n y6 y8 y9))) else k x6 x8
theorem rf_st_ok {k : Int64 → Int32 → Bool} {post : St2 → Prop} {x1 x2 b md fl : Int32} {a1 a2 : Nat → Int32} (hk : ∀ o ex, k o ex = true → wX_store_48 post x1 x2 o ex b md fl a1 a2) :
    ∀ (n : Nat) (x6 : Int64) (x8 x9 : Int32), rf_st k n x6 x8 x9 = true → wX_store_10 post x1 x2 b md fl a1 a2 n x6 x8 x9 := by
  intro n
  induction n with
  | zero => intro x6 x8 x9 h; exact rf_no h
  | succ n ih =>
    intro x6 x8 x9 h
    refine rf_if h (fun _ h => rf_no h) (fun _ h => rf_if h (fun _ h => hk _ _ h) (fun _ h => rf_if h (fun _ h => ?_) (fun _ h => hk _ _ h)))
    rw [rf_e64, rf_e32, rf_e32] at h
    exact nm_e (nm_e (nm_e (ih _ _ _ h)))
def rf_store (k : Int32 → Int32 → Int32 → (Nat → Int32) → (Nat → Int32) → Bool) (b md fl : Int32) (a1 a2 : Nat → Int32) (r ng : Int32) (m : Int64) (e : Int32) : Bool :=
  rf_st (fun o ex => rf_f32 ((if ng = 0 then o else -o).toInt32) (fun mm => rf_f32 (if o = 0 then 0 else ex) (fun ee => k b md fl (upd a1 r.toNatClampNeg mm) (upd a2 r.toNatClampNeg ee)))) 63 m e 0
theorem rf_store_ok {k : Int32 → Int32 → Int32 → (Nat → Int32) → (Nat → Int32) → Bool} {post : St2 → Prop} {b md fl : Int32} {a1 a2 : Nat → Int32} {r ng : Int32} {m : Int64} {e : Int32}
    (hr : vp_in r 4) (h : rf_store k b md fl a1 a2 r ng m e = true) (hp : ∀ b md fl a1 a2, k b md fl a1 a2 = true → post (b, md, fl, a1, a2)) : wpX_store post (b, md, fl, a1, a2) r ng m e := by
  refine ⟨63, rf_st_ok (fun o ex h => ?_) 63 m e 0 h⟩
  rw [rf_e32, rf_e32] at h
  refine br_c (fun hn => ⟨hr, nm_e (br_c (fun h0 => ⟨hr, nm_e (hp _ _ _ _ _ ?_)⟩) (fun h0 => ⟨hr, nm_e (hp _ _ _ _ _ ?_)⟩))⟩) (fun hn => ⟨hr, nm_e (br_c (fun h0 => ⟨hr, nm_e (hp _ _ _ _ _ ?_)⟩) (fun h0 => ⟨hr, nm_e (hp _ _ _ _ _ ?_)⟩))⟩)
  · rw [if_pos hn, if_pos h0] at h; exact h
  · rw [if_pos hn, if_neg h0] at h; exact h
  · rw [if_neg hn, if_pos h0] at h; exact h
  · rw [if_neg hn, if_neg h0] at h; exact h
end
section
/-! ===== round, over its three roads that are taken; any other road: false ===== -/
def rf_r55 (k : Int32 → Int32 → Int32 → Int32 → (Nat → Int32) → (Nat → Int32) → Bool) (b md fl : Int32) (a1 a2 : Nat → Int32) (r ng : Int32) (m : Int64) (e mo un : Int32) : Bool :=
  rf_f32 (un - e) (fun ct => if 0 < ct then (if ct ≤ 60 then rf_f64 (m >>> (ct.toInt64 &&& 63)) (fun kp => if (m - (kp <<< (ct.toInt64 &&& 63))) = 0 then (if mo = 0 then rf_store (k 0) b md fl a1 a2 r ng kp un else false) else false) else false) else rf_store (k 0) b md fl a1 a2 r ng m e)
theorem rf_r55_ok {k : Int32 → Int32 → Int32 → Int32 → (Nat → Int32) → (Nat → Int32) → Bool} {post : Int32 → St2 → Prop} {b md fl : Int32} {a1 a2 : Nat → Int32} {r ng : Int32} {m : Int64} {e mo un : Int32}
    (hr : vp_in r 4) (h : rf_r55 k b md fl a1 a2 r ng m e mo un = true) (hp : ∀ x b md fl a1 a2, k x b md fl a1 a2 = true → post x (b, md, fl, a1, a2)) : wX_round_55 post r ng m e mo un b md fl a1 a2 := by
  unfold rf_r55 at h
  rw [rf_e32] at h
  refine nm_e (rf_if h (fun h0 h => rf_if h (fun h6 h => br_t h6 ?_) (fun _ h => rf_no h)) (fun _ h => rf_store_ok hr h (hp 0)))
  rw [rf_e64] at h
  exact rf_if h (fun _ h => rf_if h (fun _ h => rf_store_ok hr h (hp 0)) (fun _ h => rf_no h)) (fun _ h => rf_no h)
def rf_r33 (k : Int32 → Int32 → Int32 → Int32 → (Nat → Int32) → (Nat → Int32) → Bool) (b md fl : Int32) (a1 a2 : Nat → Int32) (r ng : Int32) (m : Int64) (e mo un : Int32) : Bool :=
  if m = 0 then rf_r55 k b md fl a1 a2 r ng m e mo un else (if un ≤ 11 then rf_r55 k b md fl a1 a2 r ng m e mo un else false)
theorem rf_r33_ok {k : Int32 → Int32 → Int32 → Int32 → (Nat → Int32) → (Nat → Int32) → Bool} {post : Int32 → St2 → Prop} {b md fl : Int32} {a1 a2 : Nat → Int32} {r ng : Int32} {m : Int64} {e mo un : Int32}
    (hr : vp_in r 4) (h : rf_r33 k b md fl a1 a2 r ng m e mo un = true) (hp : ∀ x b md fl a1 a2, k x b md fl a1 a2 = true → post x (b, md, fl, a1, a2)) : wX_round_33 post r ng m e mo un b md fl a1 a2 :=
  rf_if h (fun _ h => rf_r55_ok hr h hp) (fun _ h => rf_if h (fun _ h => rf_r55_ok hr h hp) (fun _ h => rf_no h))
def rf_round (k : Int32 → Int32 → Int32 → Int32 → (Nat → Int32) → (Nat → Int32) → Bool) (b md fl : Int32) (a1 a2 : Nat → Int32) (r ng : Int32) (m : Int64) (e mo : Int32) : Bool :=
  if m.toBitVec.toNat < 4611686018427387904 then rf_f32 (rf_len m + e - b) (fun t => rf_f32 (if (-12) ≤ t then t else (-12)) (fun un => rf_r33 k b md fl a1 a2 r ng m e mo un)) else false
theorem rf_round_ok {k : Int32 → Int32 → Int32 → Int32 → (Nat → Int32) → (Nat → Int32) → Bool} {post : Int32 → St2 → Prop} {b md fl : Int32} {a1 a2 : Nat → Int32} {r ng : Int32} {m : Int64} {e mo : Int32}
    (hr : vp_in r 4) (h : rf_round k b md fl a1 a2 r ng m e mo = true) (hp : ∀ x b md fl a1 a2, k x b md fl a1 a2 = true → post x (b, md, fl, a1, a2)) : wpX_round post (b, md, fl, a1, a2) r ng m e mo := by
  unfold rf_round at h
  by_cases hm : m.toBitVec.toNat < 4611686018427387904
  · rw [if_pos hm, rf_e32, rf_e32] at h
    refine rf_bits hm (nm_e (br_c (fun hc => ?_) (fun hc => ?_)))
    · rw [if_pos hc] at h
      exact rf_r33_ok hr h hp
    · rw [if_neg hc] at h
      exact rf_r33_ok hr h hp
  · rw [if_neg hm] at h
    exact rf_no h
/-! ===== exactly, load ===== -/
def rf_exactly (k : Int32 → Int32 → Int32 → Int32 → (Nat → Int32) → (Nat → Int32) → Bool) (b md fl : Int32) (a1 a2 : Nat → Int32) (r : Int32) (m : Int64) (e : Int32) : Bool :=
  if 0 ≤ m then rf_round k b md fl a1 a2 r 0 m e 0 else rf_f64 (-m) (fun m' => rf_round k b md fl a1 a2 r 1 m' e 0)
theorem rf_exactly_ok {k : Int32 → Int32 → Int32 → Int32 → (Nat → Int32) → (Nat → Int32) → Bool} {post : Int32 → St2 → Prop} {b md fl : Int32} {a1 a2 : Nat → Int32} {r : Int32} {m : Int64} {e : Int32}
    (hr : vp_in r 4) (h : rf_exactly k b md fl a1 a2 r m e = true) (hp : ∀ x b md fl a1 a2, k x b md fl a1 a2 = true → post x (b, md, fl, a1, a2)) : wpX_exactly post (b, md, fl, a1, a2) r m e := by
  refine rf_if h (fun hm h => br_t hm (rf_round_ok hr h hp)) (fun hm h => br_f hm ?_)
  rw [rf_e64] at h
  exact rf_round_ok hr h hp
theorem rf_reg {post : Int32 → Prop} {r : Int32} (hr : vp_in r 4) (hp : post 1) : wpX_isRegister post () r := by
  obtain ⟨j, hj, rfl⟩ := vp_in_of hr (by decide)
  exact br_f (nI_pos (by omega)) (br_f (nI_ge (b := 4) hj (by decide)) hp)
def rf_load (k : Int32 → Int32 → Int32 → Int32 → (Nat → Int32) → (Nat → Int32) → Bool) (b md fl : Int32) (a1 a2 : Nat → Int32) (r : Int32) (m : Int32) : Bool :=
  if m < (-1000000) then false else (if 1000000 < m then false else rf_f64 m.toInt64 (fun m' => rf_exactly k b md fl a1 a2 r m' 0))
theorem rf_load_ok {k : Int32 → Int32 → Int32 → Int32 → (Nat → Int32) → (Nat → Int32) → Bool} {post : Int32 → St2 → Prop} {b md fl : Int32} {a1 a2 : Nat → Int32} {r : Int32} {m : Int32}
    (hr : vp_in r 4) (h : rf_load k b md fl a1 a2 r m = true) (hp : ∀ x b md fl a1 a2, k x b md fl a1 a2 = true → post x (b, md, fl, a1, a2)) : wpX_load post (b, md, fl, a1, a2) r m 0 := by
  unfold wpX_load
  dsimp only
  refine rf_reg hr (br_f (by decide) (rf_if h (fun _ h => rf_no h) (fun _ h => rf_if h (fun _ h => rf_no h) (fun _ h => br_f (by decide) (br_t (by decide) ?_)))))
  rw [rf_e64] at h
  exact rf_exactly_ok hr h hp
/-! ===== sum, fuse(2, 20) ===== -/
def rf_sum (k : Int32 → Int32 → Int32 → Int32 → (Nat → Int32) → (Nat → Int32) → Bool) (b md fl : Int32) (a1 a2 : Nat → Int32) (r : Int32) (m : Int64) (e : Int32) (n : Int64) (f : Int32) : Bool :=
  rf_f32 (if f ≤ e then f else e) (fun lo => rf_f64 ((m <<< ((e - lo).toInt64 &&& 63)) + (n <<< ((f - lo).toInt64 &&& 63))) (fun tt => rf_exactly k b md fl a1 a2 r tt lo))
theorem rf_sum_ok {k : Int32 → Int32 → Int32 → Int32 → (Nat → Int32) → (Nat → Int32) → Bool} {post : Int32 → St2 → Prop} {b md fl : Int32} {a1 a2 : Nat → Int32} {r : Int32} {m : Int64} {e : Int32} {n : Int64} {f : Int32}
    (hr : vp_in r 4) (h : rf_sum k b md fl a1 a2 r m e n f = true) (hp : ∀ x b md fl a1 a2, k x b md fl a1 a2 = true → post x (b, md, fl, a1, a2)) : wpX_sum post (b, md, fl, a1, a2) r m e n f := by
  unfold rf_sum at h
  rw [rf_e32, rf_e64] at h
  refine br_c (fun hc => nm_e ?_) (fun hc => nm_e ?_)
  · rw [if_pos hc] at h
    exact rf_exactly_ok hr h hp
  · rw [if_neg hc] at h
    exact rf_exactly_ok hr h hp
def rf_fuse (k : Int32 → Int32 → Int32 → Int32 → (Nat → Int32) → (Nat → Int32) → Bool) (b md fl : Int32) (a1 a2 : Nat → Int32) : Bool :=
  rf_f64 ((a1 0).toInt64 * (a1 1).toInt64) (fun pr => rf_f32 (a2 0 + a2 1) (fun e => rf_f64 (if 0 ≤ pr then pr else -pr) (fun mg =>
    if mg.toBitVec.toNat < 4611686018427387904 then
      (if pr = 0 then rf_sum k b md fl a1 a2 2 pr 0 (a1 1).toInt64 (a2 1) else (if rf_len mg + e ≤ 26 then rf_sum k b md fl a1 a2 2 pr e (a1 1).toInt64 (a2 1) else false))
    else false)))
theorem rf_in0 : vp_in (0 : Int32) 4 := vp_in_iff.mpr (by decide)
theorem rf_in1 : vp_in (1 : Int32) 4 := vp_in_iff.mpr (by decide)
theorem rf_in2 : vp_in (2 : Int32) 4 := vp_in_iff.mpr (by decide)
theorem rf_in3 : vp_in (3 : Int32) 4 := vp_in_iff.mpr (by decide)
theorem rf_fuse_ok {k : Int32 → Int32 → Int32 → Int32 → (Nat → Int32) → (Nat → Int32) → Bool} {post : Int32 → St2 → Prop} {b md fl : Int32} {a1 a2 : Nat → Int32}
    (h : rf_fuse k b md fl a1 a2 = true) (hp : ∀ x b md fl a1 a2, k x b md fl a1 a2 = true → post x (b, md, fl, a1, a2)) : wpX_fuse post (b, md, fl, a1, a2) 2 20 := by
  unfold rf_fuse at h
  rw [rf_e64, rf_e32, rf_e64] at h
  have key : ∀ (mg : Int64), mg = (if 0 ≤ (a1 0).toInt64 * (a1 1).toInt64 then (a1 0).toInt64 * (a1 1).toInt64 else -((a1 0).toInt64 * (a1 1).toInt64)) →
      wpX_bitsOf (fun r_15 => (∀ x11_16 : Int32, x11_16 = r_15 + (a2 0 + a2 1) → ((((a1 0).toInt64 * (a1 1).toInt64 = 0 → (wX_fuse_118 post 2 1 ((a1 0).toInt64 * (a1 1).toInt64) (a2 0 + a2 1) b md fl a1 a2)) ∧ (¬ (a1 0).toInt64 * (a1 1).toInt64 = 0 → (((x11_16 ≤ 26 → (wX_fuse_118 post 2 1 ((a1 0).toInt64 * (a1 1).toInt64) (a2 0 + a2 1) b md fl a1 a2)) ∧ (¬ x11_16 ≤ 26 → (((0 ≤ (a1 0).toInt64 * (a1 1).toInt64 → (wX_fuse_114 post 0 2 b md fl a1 a2)) ∧ (¬ 0 ≤ (a1 0).toInt64 * (a1 1).toInt64 → (wX_fuse_114 post 1 2 b md fl a1 a2)))))))))))) () mg := by
    intro mg e
    rw [← e] at h
    by_cases hm : mg.toBitVec.toNat < 4611686018427387904
    · rw [if_pos hm] at h
      refine rf_bits hm (nm_e (rf_if h (fun h0 h => br_t h0 ⟨rf_in1, rf_in1, rf_sum_ok rf_in2 h hp⟩) (fun h0 h => rf_if h (fun _ h => br_f h0 ⟨rf_in1, rf_in1, rf_sum_ok rf_in2 h hp⟩) (fun _ h => rf_no h))))
    · rw [if_neg hm] at h
      exact rf_no h
  unfold wpX_fuse
  dsimp only
  refine rf_reg rf_in2 (br_f (by decide) (br_f (by decide) (br_t (by decide) (nm_r (e' := 0) (by decide) (nm_r (e' := 1) (by decide) (nm_r (e' := 1) (by decide) ⟨rf_in0, rf_in1, nm_r (e' := (a1 0).toInt64 * (a1 1).toInt64) rfl ⟨rf_in0, rf_in1, nm_r (e' := a2 0 + a2 1) rfl ?_⟩⟩))))))
  exact br_c (fun hc => key _ (by rw [if_pos hc])) (fun hc => key _ (by rw [if_neg hc]))
/-! ===== div(3, 2, 1) ===== -/
def rf_size (x : Int64) : Int64 := if 0 ≤ x then x else -x
theorem rf_size_ok {post : Int64 → Prop} {x : Int64} (hp : post (rf_size x)) : wpX_size post () x := by
  unfold rf_size at hp
  exact br_c (fun hc => by rw [if_pos hc] at hp; exact hp) (fun hc => by rw [if_neg hc] at hp; exact hp)
def rf_d86 (k : Int32 → Int32 → Int32 → Int32 → (Nat → Int32) → (Nat → Int32) → Bool) (b md fl : Int32) (a1 a2 : Nat → Int32) (q : Int64) : Bool :=
  if 0 ≤ a1 2 then (if 0 ≤ a1 1 then rf_round k b md fl a1 a2 3 0 q ((a2 2 - a2 1) - 40) 0 else rf_round k b md fl a1 a2 3 1 q ((a2 2 - a2 1) - 40) 0)
  else (if 0 ≤ a1 1 then rf_round k b md fl a1 a2 3 1 q ((a2 2 - a2 1) - 40) 0 else rf_round k b md fl a1 a2 3 0 q ((a2 2 - a2 1) - 40) 0)
theorem rf_d86_ok {k : Int32 → Int32 → Int32 → Int32 → (Nat → Int32) → (Nat → Int32) → Bool} {post : Int32 → St2 → Prop} {b md fl : Int32} {a1 a2 : Nat → Int32} {q : Int64}
    (h : rf_d86 k b md fl a1 a2 q = true) (hp : ∀ x b md fl a1 a2, k x b md fl a1 a2 = true → post x (b, md, fl, a1, a2)) : wX_div_86 post 3 2 1 q 0 b md fl a1 a2 :=
  ⟨rf_in2, rf_if h
    (fun _ h => ⟨rf_in1, rf_if h (fun _ h => br_t rfl ⟨rf_in2, rf_in1, rf_round_ok rf_in3 h hp⟩) (fun _ h => br_f (by decide) ⟨rf_in2, rf_in1, rf_round_ok rf_in3 h hp⟩)⟩)
    (fun _ h => ⟨rf_in1, rf_if h (fun _ h => br_f (by decide) ⟨rf_in2, rf_in1, rf_round_ok rf_in3 h hp⟩) (fun _ h => br_t rfl ⟨rf_in2, rf_in1, rf_round_ok rf_in3 h hp⟩)⟩)⟩
def rf_div (k : Int32 → Int32 → Int32 → Int32 → (Nat → Int32) → (Nat → Int32) → Bool) (b md fl : Int32) (a1 a2 : Nat → Int32) : Bool :=
  rf_f64 (rf_size (a1 1).toInt64) (fun dv => if dv = 0 then rf_store (fun b md fl a1 a2 => rf_f32 (fl ||| 4) (fun f => k 4 b md f a1 a2)) b md fl a1 a2 3 0 0 0
    else rf_f64 (rf_size (a1 2).toInt64 <<< ((40 : Int32).toInt64 &&& 63)) (fun sc => rf_f64 (sc / dv) (fun q => if (q * dv) = sc then rf_d86 k b md fl a1 a2 q else false)))
theorem rf_div_ok {k : Int32 → Int32 → Int32 → Int32 → (Nat → Int32) → (Nat → Int32) → Bool} {post : Int32 → St2 → Prop} {b md fl : Int32} {a1 a2 : Nat → Int32}
    (h : rf_div k b md fl a1 a2 = true) (hp : ∀ x b md fl a1 a2, k x b md fl a1 a2 = true → post x (b, md, fl, a1, a2)) : wpX_div post (b, md, fl, a1, a2) 3 2 1 := by
  unfold rf_div at h
  rw [rf_e64] at h
  unfold wpX_div
  dsimp only
  refine rf_reg rf_in3 (br_f (by decide) (rf_reg rf_in2 (br_f (by decide) (rf_reg rf_in1 (br_f (by decide) ⟨rf_in1, rf_size_ok (rf_if h (fun _ h => ?_) (fun h0 h => ⟨rf_in2, rf_size_ok (nm_e ⟨h0, nm_e ?_⟩)⟩))⟩)))))
  · refine rf_store_ok rf_in3 h (fun b md fl a1 a2 h => nm_e ?_)
    rw [rf_e32] at h
    exact hp _ _ _ _ _ _ h
  · rw [rf_e64, rf_e64] at h
    exact rf_if h (fun _ h => rf_d86_ok h hp) (fun _ h => rf_no h)
/-! ===== compare(3, 0) ===== -/
def rf_c46 (k : Int32 → Bool) (a1 a2 : Nat → Int32) (lo : Int32) : Bool :=
  rf_f64 ((a1 3).toInt64 <<< ((a2 3 - lo).toInt64 &&& 63)) (fun x => rf_f64 ((a1 0).toInt64 <<< ((a2 0 - lo).toInt64 &&& 63)) (fun y => if x = y then k 0 else (if y ≤ x then k 1 else k (-1))))
theorem rf_c46_ok {k : Int32 → Bool} {post : Int32 → Prop} {b md fl : Int32} {a1 a2 : Nat → Int32} {lo : Int32} (h : rf_c46 k a1 a2 lo = true) (hp : ∀ x, k x = true → post x) : wX_compare_46 post 3 0 lo b md fl a1 a2 := by
  unfold rf_c46 at h
  rw [rf_e64, rf_e64] at h
  exact ⟨rf_in3, rf_in3, nm_e ⟨rf_in0, rf_in0, nm_e (rf_if h (fun _ h => hp _ h) (fun _ h => rf_if h (fun _ h => hp _ h) (fun _ h => hp _ h)))⟩⟩
def rf_compare (k : Int32 → Bool) (a1 a2 : Nat → Int32) : Bool := if a2 0 ≤ a2 3 then rf_c46 k a1 a2 (a2 0) else rf_c46 k a1 a2 (a2 3)
theorem rf_compare_ok {k : Int32 → Bool} {post : Int32 → Prop} {b md fl : Int32} {a1 a2 : Nat → Int32} (h : rf_compare k a1 a2 = true) (hp : ∀ x, k x = true → post x) : wpX_compare post (b, md, fl, a1, a2) 3 0 := by
  unfold wpX_compare
  dsimp only
  exact rf_reg rf_in3 (br_f (by decide) (rf_reg rf_in0 (br_f (by decide) ⟨rf_in3, rf_in0, rf_if h (fun _ h => ⟨rf_in0, rf_c46_ok h hp⟩) (fun _ h => ⟨rf_in3, rf_c46_ok h hp⟩)⟩)))
end
section
/-! ===== the law's end ===== -/
def rf_221 (x9 x10 x11 x15 z0 z1 : Int32) : Bool := if z1 = z0 then (if x10 = x15 then (if x11 = x9 then true else false) else false) else false
theorem rf_221_ok {post : Int32 → St0 → Prop} {mc ms : Nat} {x9 x10 x11 x15 z0 z1 : Int32} {kc ks : Nat} (h : rf_221 x9 x10 x11 x15 z0 z1 = true) (hp : post 1 ()) : wL_lawOf_221 post mc ms x9 x10 x11 x15 z0 z1 kc ks :=
  rf_if h (fun _ h => rf_if h (fun _ h => rf_if h (fun _ _ => hp) (fun _ h => rf_no h)) (fun _ h => rf_no h)) (fun _ h => rf_no h)
def rf_197 (x5 x6 x9 x10 x11 x14 z0 : Int32) : Bool := if x6 = 0 then (if x14 = 0 then false else (if x5 = 0 then rf_221 x9 x10 x11 z0 4 x9 else rf_221 x9 x10 x11 z0 0 x9)) else false
theorem rf_197_ok {post : Int32 → St0 → Prop} {mc ms : Nat} {x5 x6 x9 x10 x11 x14 z0 : Int32} {kc ks : Nat} (h : rf_197 x5 x6 x9 x10 x11 x14 z0 = true) (hp : post 1 ()) : wL_lawOf_197 post mc ms x5 x6 x9 x10 x11 x14 z0 kc ks :=
  rf_if h (fun _ h => rf_if h (fun _ h => rf_no h) (fun _ h => rf_if h (fun _ h => rf_221_ok h hp) (fun _ h => rf_221_ok h hp))) (fun _ h => rf_no h)
def rf_172 (x4 x5 x6 x9 x10 x11 x13 z0 : Int32) : Bool := if x4 ≤ x13 then (if x13 ≤ x4 then rf_197 x5 x6 x9 x10 x11 z0 0 else rf_197 x5 x6 x9 x10 x11 z0 1) else rf_197 x5 x6 x9 x10 x11 z0 (-1)
theorem rf_172_ok {post : Int32 → St0 → Prop} {mc ms : Nat} {x4 x5 x6 x9 x10 x11 x13 z0 : Int32} {kc ks : Nat} (h : rf_172 x4 x5 x6 x9 x10 x11 x13 z0 = true) (hp : post 1 ()) : wL_lawOf_172 post mc ms x4 x5 x6 x9 x10 x11 x13 z0 kc ks :=
  rf_if h (fun _ h => rf_if h (fun _ h => rf_197_ok h hp) (fun _ h => rf_197_ok h hp)) (fun _ h => rf_197_ok h hp)
def rf_155 (x4 x5 x6 x7 x8 x9 x10 x11 x12 z0 : Int32) : Bool := if (x7 <<< (x8 &&& 31)) = x12 then rf_172 x4 x5 x6 x9 x10 x11 z0 1 else false
theorem rf_155_ok {post : Int32 → St0 → Prop} {mc ms : Nat} {x4 x5 x6 x7 x8 x9 x10 x11 x12 z0 : Int32} {kc ks : Nat} (h : rf_155 x4 x5 x6 x7 x8 x9 x10 x11 x12 z0 = true) (hp : post 1 ()) : wL_lawOf_155 post mc ms x4 x5 x6 x7 x8 x9 x10 x11 x12 z0 kc ks :=
  rf_if h (fun _ h => rf_172_ok h hp) (fun _ h => rf_no h)
theorem rf_mant_ok {post : Int32 → Prop} {b md fl : Int32} {a1 a2 : Nat → Int32} (hp : post (a1 2)) : wpX_mantissa post (b, md, fl, a1, a2) 2 := by
  unfold wpX_mantissa
  dsimp only
  exact rf_reg rf_in2 (br_f (by decide) ⟨rf_in2, hp⟩)
theorem rf_expo_ok {post : Int32 → Prop} {b md fl : Int32} {a1 a2 : Nat → Int32} (hp : post (a2 2)) : wpX_exponent post (b, md, fl, a1, a2) 2 := by
  unfold wpX_exponent
  dsimp only
  exact rf_reg rf_in2 (br_f (by decide) ⟨rf_in2, hp⟩)
/-! ===== the law from its two loads on ===== -/
def rf_law (b x y : Int32) : Bool :=
  rf_load (fun _ b md fl a1 a2 => rf_load (fun _ b md fl a1 a2 => rf_fuse (fun r43 b md fl a1 a2 => rf_div (fun r55 _ _ fl' c1 c2 => rf_compare (fun r65 =>
    if y = 0 then rf_155 x y r43 (a1 2) (a2 2) r55 r65 fl' (x * y + y) 0 else rf_155 x y r43 (a1 2) (a2 2) r55 r65 fl' (x * y + y) (x + 1)) c1 c2) b md fl a1 a2) b md fl a1 a2) b md fl a1 a2 1 y) b 0 0 (fun _ => 0) (fun _ => 0) 0 x
theorem rf_law_ok {post : Int32 → St0 → Prop} {mc ms : Nat} {b x y : Int32} {kc ks : Nat} (h : rf_law b x y = true) (hp : post 1 ()) : wL_lawOf_66 post mc ms x y kc ks b 0 0 (fun _ => 0) (fun _ => 0) := by
  refine rf_load_ok rf_in0 h (fun _ b1 m1 f1 p1 q1 h => ?_)
  refine rf_load_ok rf_in1 h (fun _ b2 m2 f2 p2 q2 h => ?_)
  refine rf_fuse_ok h (fun r43 b3 m3 f3 p3 q3 h => ?_)
  refine rf_mant_ok (rf_expo_ok ?_)
  refine rf_div_ok h (fun r55 b4 m4 f4 p4 q4 h => ?_)
  refine rf_compare_ok h (fun r65 h => ?_)
  exact nm_e (rf_if h (fun _ h => rf_155_ok h hp) (fun _ h => rf_155_ok h hp))
end
section
/-! ===== every case: the five precisions, the fifteen values of a and of b ===== -/
theorem rf_table : ∀ i, i < 5 → ∀ j, j < 15 → ∀ k, k < 15 → rf_law (nI (6 + i)) (nI j - 7) (nI k - 7) = true := by decide +kernel
end
section
theorem rf_at {b x y : Int32} (hb : ∃ i, i < 5 ∧ b = nI (6 + i)) (hx : ∃ j, j < 15 ∧ x = nI j - 7) (hy : ∃ k, k < 15 ∧ y = nI k - 7) : rf_law b x y = true := by
  obtain ⟨i, hi, rfl⟩ := hb
  obtain ⟨j, hj, rfl⟩ := hx
  obtain ⟨k, hk, rfl⟩ := hy
  exact rf_table i hi j hj k hk
theorem rf_small (x : Int32) (h : ¬ (x &&& 15) - 7 = 8) : ∃ j, j < 15 ∧ (x &&& 15) - 7 = nI j - 7 := by
  obtain ⟨j, hj, e⟩ := pk_andE x (m := 15) 4 (by decide)
  rw [e] at h ⊢
  refine ⟨j, ?_, rfl⟩
  have hj' : j < 16 := hj
  by_cases e15 : j = 15
  · subst e15
    exact absurd (by decide) h
  · omega
theorem rf_42 {post : Int32 → St0 → Prop} {mc ms : Nat} {y z b : Int32} {kc ks : Nat} (hb : ∃ i, i < 5 ∧ b = nI (6 + i)) (hz : ∃ j, j < 15 ∧ z = nI j - 7) (hp : post 1 ()) : wL_lawOf_42 post mc ms y z kc ks b 0 0 (fun _ => 0) (fun _ => 0) :=
  nm_e (br_c (fun _ => rf_law_ok (rf_at hb hz ⟨8, by decide, by decide⟩) hp) (fun h => rf_law_ok (rf_at hb hz (rf_small y h)) hp))
theorem rf_mid {post : Int32 → St0 → Prop} {mc ms : Nat} {x y b : Int32} {kc ks : Nat} (hb : ∃ i, i < 5 ∧ b = nI (6 + i)) (hp : post 1 ()) :
    ∀ x4_19 : Int32, x4_19 = (x &&& 15) - 7 → ((x4_19 = 8 → (wL_lawOf_42 post mc ms y 0 kc ks b 0 0 (fun _ => 0) (fun _ => 0))) ∧ (¬ x4_19 = 8 → (wL_lawOf_42 post mc ms y x4_19 kc ks b 0 0 (fun _ => 0) (fun _ => 0)))) :=
  nm_e (br_c (fun _ => rf_42 hb ⟨7, by decide, by decide⟩ hp) (fun h => rf_42 hb (rf_small x h) hp))
theorem rf_16 {post : Int32 → St0 → Prop} {x y z : Int32} (hz : 6 ≤ z) (hp : post 1 ()) : wL_lawOf_16 post 12 192 x y z 1 5 0 0 0 := by
  refine ⟨2, 8, by decide, by decide, by decide, by decide, by decide, by decide, br_t ?_ (br_c (fun h => rf_mid ?_ hp) (fun h => rf_mid ⟨4, by decide, by decide⟩ hp))⟩
  · exact Int32.le_trans (by decide) hz
  · have h6 : (6 : Int32).toInt ≤ z.toInt := Int32.le_iff_toInt_le.mp hz
    obtain ⟨j, hj, rfl⟩ := nI_of2 (x := z) (M := 10) (n := 10) (by decide) (fun h0 => by
      have h1 := Int32.lt_iff_toInt_lt.mp h0
      have h2 : (6 : Int32).toInt = 6 := by decide
      have h3 : (0 : Int32).toInt = 0 := by decide
      omega) h
    rw [nI_toInt (by omega)] at h6
    have h2 : (6 : Int32).toInt = 6 := by decide
    refine ⟨j - 6, by omega, ?_⟩
    rw [show 6 + (j - 6) = j by omega]
theorem rf_lawOf {post : Int32 → St0 → Prop} {p x y : Int32} (hp : post 1 ()) : wpL_lawOf post 12 192 () p x y :=
  ⟨by decide, by decide, br_c (fun h => rf_16 h hp) (fun _ => rf_16 (by decide) hp)⟩
theorem rf_cell {post : Int32 → Prop} {L : Nat} {xs : Nat → Int32} {i : Nat} (hL : L ≤ 3) (hi : i < 3) (hp : ∀ r, post r) : wpL_cellAt post L xs () (nI i) :=
  br_c (fun _ => hp _) (fun h => ⟨vp_in_nI (by
    rcases Nat.lt_or_ge i L with z | z
    · exact z
    · exact absurd (nI_le z (by omega)) h) (by omega), hp _⟩)
theorem i_vc (xs : Nat → Int32) (L : Nat) (hL : L ≤ 3) : wpL_law (fun r => r = 1) L xs :=
  rf_cell (i := 0) hL (by decide) (fun _ => rf_cell (i := 1) hL (by decide) (fun _ => rf_cell (i := 2) hL (by decide) (fun _ => ⟨12, 192, by decide, by decide, rf_lawOf rfl⟩)))
end
