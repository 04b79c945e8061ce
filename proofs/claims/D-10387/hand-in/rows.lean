section
/-! ===== general rows ===== -/
/-- a printed branch, met by a pure 'if' -/
theorem zd_if {α : Sort _} {c : Prop} [Decidable c] {post : α → Prop} {A B : Prop} {x y : α} (hA : post x → A) (hB : post y → B) (h : post (if c then x else y)) : (c → A) ∧ (¬ c → B) :=
  ⟨fun hc => hA (by rwa [if_pos hc] at h), fun hc => hB (by rwa [if_neg hc] at h)⟩
/-! ===== powers of ten ===== -/
def zd_ten (n : Nat) : Int64 := lN (10 ^ n)
theorem zd_tenS (n : Nat) : zd_ten n * 10 = zd_ten (n + 1) := by
  unfold zd_ten
  rw [show (10 : Int64) = lN 10 from rfl, lN_mul, Nat.pow_succ]
theorem zd_tenL {post : Int64 → Prop} {f0 f1 f2 : Int32} {a : Nat → Int32} {k : Nat} (hk : k < 2 ^ 31) (H : post (zd_ten k)) : ∀ c i, i + c = k → wX_tenTo_5 post (nI k) f0 f1 f2 a (c + 1) (zd_ten i) (nI i)
  | 0, i, h => by
    have : i = k := by omega
    subst this
    exact br_t (nI_le (by omega) hk) H
  | c + 1, i, h => by
    refine br_f (nI_ge (by omega) hk) (fun x2 e2 x4 e4 => ?_)
    rw [zd_tenS] at e2
    rw [nI_1] at e4
    subst e2 e4
    exact zd_tenL hk H c (i + 1) (by omega)
theorem zd_tenW {post : Int64 → Prop} {u : St1} {p : Int32} (h : post (zd_ten p.toNatClampNeg)) : wpX_tenTo post u p := by
  obtain ⟨f0, f1, f2, a⟩ := u
  by_cases hp : p < 0
  · have e : p.toNatClampNeg = 0 := by
      have h1 : p.toInt < 0 := by simpa using Int32.lt_iff_toInt_lt.mp hp
      show p.toInt.toNat = 0
      omega
    rw [e] at h
    have hle : p ≤ 0 := by
      have h1 : p.toInt < 0 := by simpa using Int32.lt_iff_toInt_lt.mp hp
      rw [Int32.le_iff_toInt_le]
      simpa using (by omega : p.toInt ≤ 0)
    exact ⟨1, br_t hle h⟩
  · obtain ⟨j, hj, rfl⟩ := nI_of hp
    rw [nI_clamp hj] at h
    exact ⟨j + 1, zd_tenL hj h j 0 (by omega)⟩
theorem zd_ten0 : ∀ n, n < 19 → ¬ zd_ten n = 0 := by decide +kernel
/-! ===== decimals and codes ===== -/
def zd_so (d q : Int32) : Int64 :=
  if q < 0 then (if d.toInt64 / zd_ten (-q).toNatClampNeg ≤ 8000 then d.toInt64 * (1024 * zd_ten (12 + q).toNatClampNeg) else 9000000000000000000)
  else (if d.toInt64 * zd_ten q.toNatClampNeg ≤ 8000 then ((d.toInt64 * zd_ten q.toNatClampNeg) * 1024) * 1000000000000 else 9000000000000000000)
theorem zd_soW {post : Int64 → Prop} {u : St1} {d q : Int32} (hq : ¬ zd_ten (-q).toNatClampNeg = 0) (h : post (zd_so d q)) : wpX_stepsOf post u d q := by
  obtain ⟨f0, f1, f2, a⟩ := u
  unfold zd_so at h
  exact zd_if (post := post) (fun h => zd_tenW ⟨hq, zd_if (post := post) (fun h => zd_tenW h) id h⟩) (fun h => zd_tenW (nm_e (zd_if (post := post) id id h))) h
def zd_un (c : Int32) : Int32 := if c >>> ((6 : Int32) &&& 31) = 0 then c &&& 63 else (64 + (c &&& 63)) <<< (((c >>> ((6 : Int32) &&& 31)) - 1) &&& 31)
theorem zd_unW {post : Int32 → Prop} {u : St1} {c : Int32} (h : post (zd_un c)) : wpX_unitsOf post u c := by
  obtain ⟨f0, f1, f2, a⟩ := u
  unfold zd_un at h
  exact nm_e (nm_e (zd_if (post := post) id id h))
def zd_ba (c : Int32) : Int64 := ((zd_un c + zd_un (c + 1)).toInt64) * 1000000000000
theorem zd_baW {post : Int64 → Prop} {u : St1} {c : Int32} (h : post (zd_ba c)) : wpX_borderAbove post u c := by
  obtain ⟨f0, f1, f2, a⟩ := u
  unfold wpX_borderAbove
  dsimp only
  exact zd_unW (zd_unW h)
/-! ===== nearest ===== -/
def zd_mi (lo hi : Int32) : Int32 := (lo + hi) >>> ((1 : Int32) &&& 31)
def zd_ne (n : Int64) : Nat → Int32 → Int32 → Int32
  | 0, lo, _ => lo
  | k + 1, lo, hi => if hi ≤ lo then lo else
      (if zd_ba (zd_mi lo hi) < n then zd_ne n k (zd_mi lo hi + 1) hi else
        (if n = zd_ba (zd_mi lo hi) then (if zd_mi lo hi &&& 1 = 1 then zd_ne n k (zd_mi lo hi + 1) hi else zd_ne n k lo (zd_mi lo hi))
          else zd_ne n k lo (zd_mi lo hi)))
theorem zd_neL {post : Int32 → Prop} {n : Int64} {f0 f1 f2 : Int32} {a : Nat → Int32} : ∀ k i lo hi, i + k = 11 → post (zd_ne n k lo hi) → wX_nearest_10 post n f0 f1 f2 a (k + 1) lo hi (nI i)
  | 0, i, lo, hi, hi', h => by
    have : i = 11 := by omega
    subst this
    exact br_t (by decide) h
  | k + 1, i, lo, hi, hi', h => by
    unfold zd_ne at h
    have up : post (zd_ne n k (zd_mi lo hi + 1) hi) → wX_nearest_61 post (wX_nearest_10 post n f0 f1 f2 a (k + 1)) n lo hi (nI i) (zd_mi lo hi) f0 f1 f2 a :=
      fun h => br_f (by decide) (nm_e (nm_r (nI_1 i) (zd_neL k (i + 1) _ _ (by omega) h)))
    have dn : post (zd_ne n k lo (zd_mi lo hi)) → wX_nearest_65 post (wX_nearest_10 post n f0 f1 f2 a (k + 1)) n lo hi (nI i) (zd_mi lo hi) f0 f1 f2 a :=
      fun h => br_t rfl (nm_r (nI_1 i) (zd_neL k (i + 1) _ _ (by omega) h))
    exact br_f (nI_ge (b := 11) (by omega) (by decide)) (zd_if (post := post) id (fun h => nm_r (e' := zd_mi lo hi) rfl (zd_baW (zd_if (post := post) up (fun h => zd_if (post := post) (fun h => zd_if (post := post) up dn h) dn h) h))) h)
def zd_nr (n : Int64) : Int32 := zd_ne n 11 0 1023
theorem zd_nrW {post : Int32 → Prop} {u : St1} {n : Int64} (h : post (zd_nr n)) : wpX_nearest post u n := by
  obtain ⟨f0, f1, f2, a⟩ := u
  exact ⟨12, zd_neL 11 0 0 1023 (by omega) h⟩
def zd_bd (d q : Int32) : Int32 := if d < 0 then 1 else (if 99999999 < d then 1 else (if q < -12 then 1 else (if q ≤ 6 then 0 else 1)))
theorem zd_bdW {post : Int32 → Prop} {u : St1} {d q : Int32} (h : post (zd_bd d q)) : wpX_badDecimal post u d q := by
  obtain ⟨f0, f1, f2, a⟩ := u
  unfold zd_bd at h
  exact zd_if (post := post) id (fun h => zd_if (post := post) id (fun h => zd_if (post := post) id (fun h => zd_if (post := post) id id h) h) h) h
def zd_rd (d q : Int32) : Int32 := if zd_bd d q = 0 then zd_nr (zd_so d q) else -1
theorem zd_rdW {post : Int32 → Prop} {u : St1} {d q : Int32} (hq : ¬ zd_ten (-q).toNatClampNeg = 0) (h : post (zd_rd d q)) : wpX_read post u d q := by
  obtain ⟨f0, f1, f2, a⟩ := u
  unfold wpX_read
  dsimp only
  unfold zd_rd at h
  exact zd_bdW (zd_if (post := post) (fun h => zd_soW hq (zd_nrW h)) id h)
theorem zd_bcW {post : Int32 → Prop} {u : St1} {c : Int32} (h0 : ¬ c < 0) (h1 : c < 1024) (h : post 0) : wpX_badCode post u c := by
  obtain ⟨f0, f1, f2, a⟩ := u
  exact br_f h0 (br_t h1 h)
def zd_st (c : Int32) : Int64 := (zd_un c).toInt64 * 2000000000000
theorem zd_stW {post : Int64 → Prop} {u : St1} {c : Int32} (h : post (zd_st c)) : wpX_steps post u c := by
  obtain ⟨f0, f1, f2, a⟩ := u
  unfold wpX_steps
  dsimp only
  exact zd_unW h
theorem zd_usW {post : Int32 → Prop} {u : St1} {c : Int32} (h0 : ¬ c < 0) (h1 : c < 1024) (h : post (zd_un c)) : wpX_units post u c := by
  obtain ⟨f0, f1, f2, a⟩ := u
  unfold wpX_units
  dsimp only
  exact zd_bcW h0 h1 (br_t rfl (zd_unW h))
def zd_co (c d q : Int32) : Int32 := if zd_bd d q = 0 then (if zd_st c = zd_so d q then 0 else (if zd_so d q ≤ zd_st c then 1 else -1)) else 2
theorem zd_coW {post : Int32 → Prop} {u : St1} {c d q : Int32} (h0 : ¬ c < 0) (h1 : c < 1024) (hq : ¬ zd_ten (-q).toNatClampNeg = 0) (h : post (zd_co c d q)) : wpX_compare post u c d q := by
  obtain ⟨f0, f1, f2, a⟩ := u
  unfold wpX_compare
  dsimp only
  unfold zd_co at h
  exact zd_bcW h0 h1 (br_t rfl (zd_bdW (zd_if (post := post) (fun h => zd_stW (zd_soW hq (zd_if (post := post) id (fun h => zd_if (post := post) id id h) h))) id h)))
/-! ===== multiples ===== -/
def zd_lk (c : Int32) (p : Int64) : Int64 := ((zd_ba (c - 1) + p) - 1) / p
def zd_lm (c : Int32) (p : Int64) : Int64 := if zd_lk c p * p = zd_ba (c - 1) then (if c &&& 1 = 1 then zd_lk c p + 1 else zd_lk c p) else zd_lk c p
theorem zd_lmW {post : Int64 → Prop} {u : St1} {c : Int32} {p : Int64} (hp : ¬ p = 0) (h : post (zd_lm c p)) : wpX_leastMultiple post u c p := by
  obtain ⟨f0, f1, f2, a⟩ := u
  unfold wpX_leastMultiple
  dsimp only
  unfold zd_lm at h
  exact zd_baW ⟨hp, nm_r (e' := zd_lk c p) rfl (zd_if (post := post) (fun h => zd_if (post := post) (fun h => br_f (by decide) h) (fun h => br_t rfl h) h) (fun h => br_t rfl h) h)⟩
def zd_gk (c : Int32) (p : Int64) : Int64 := zd_ba c / p
def zd_gm (c : Int32) (p : Int64) : Int64 := if zd_gk c p * p = zd_ba c then (if c &&& 1 = 1 then zd_gk c p - 1 else zd_gk c p) else zd_gk c p
theorem zd_gmW {post : Int64 → Prop} {u : St1} {c : Int32} {p : Int64} (hp : ¬ p = 0) (h : post (zd_gm c p)) : wpX_greatestMultiple post u c p := by
  obtain ⟨f0, f1, f2, a⟩ := u
  unfold wpX_greatestMultiple
  dsimp only
  unfold zd_gm at h
  exact zd_baW ⟨hp, nm_r (e' := zd_gk c p) rfl (zd_if (post := post) (fun h => zd_if (post := post) (fun h => br_f (by decide) h) (fun h => br_t rfl h) h) (fun h => br_t rfl h) h)⟩
def zd_nb (most z : Int64) : Int64 := if z ≤ most then z else most
def zd_na (least most k : Int64) : Int64 := if least ≤ k then zd_nb most k else zd_nb most least
def zd_nm (v p least most : Int64) : Int64 := if 2 * (v - (v / p) * p) ≤ p then zd_na least most (v / p) else zd_na least most (v / p + 1)
theorem zd_nmW {post : Int64 → Prop} {u : St1} {v p least most : Int64} (hp : ¬ p = 0) (h : post (zd_nm v p least most)) : wpX_nearestMultiple post u v p least most := by
  obtain ⟨f0, f1, f2, a⟩ := u
  have hb : ∀ z, post (zd_nb most z) → wX_nearestMultiple_41 post most z f0 f1 f2 a := fun z h => by
    unfold zd_nb at h
    exact zd_if (post := post) id id h
  have ha : ∀ k, post (zd_na least most k) → wX_nearestMultiple_26 post least most k f0 f1 f2 a := fun k h => by
    unfold zd_na at h
    exact zd_if (post := post) (hb k) (hb least) h
  unfold zd_nm at h
  exact ⟨hp, nm_e (zd_if (post := post) (ha _) (fun h => nm_e (ha _ h)) h)⟩
def zd_ab (v : Int64) : Int64 := if 0 ≤ v then v else -v
theorem zd_abW {post : Int64 → Prop} {u : St1} {v : Int64} (h : post (zd_ab v)) : wpX_size post u v := by
  obtain ⟨f0, f1, f2, a⟩ := u
  unfold zd_ab at h
  exact zd_if (post := post) id id h
def zd_lg : Nat → Int32 → Int64 → Int32
  | 0, n, _ => n
  | k + 1, n, l => if l ≤ 0 then n else zd_lg k (n + 1) (l / 10)
theorem zd_lgL {post : Int32 → Prop} {f0 f1 f2 : Int32} {a : Nat → Int32} : ∀ k i n l, i + k = 18 → post (zd_lg k n l) → wX_lengthOf_12 post f0 f1 f2 a (k + 1) n l (nI i)
  | 0, i, n, l, hi, h => by
    have : i = 18 := by omega
    subst this
    exact br_t (by decide) h
  | k + 1, i, n, l, hi, h => by
    unfold zd_lg at h
    exact br_f (nI_ge (b := 18) (by omega) (by decide)) (zd_if (post := post) id (fun h => nm_e ⟨by decide, nm_e (nm_r (nI_1 i) (zd_lgL k (i + 1) _ _ (by omega) h))⟩) h)
def zd_lo (d : Int64) : Int32 := zd_lg 18 1 (d / 10)
theorem zd_loW {post : Int32 → Prop} {u : St1} {d : Int64} (h : post (zd_lo d)) : wpX_lengthOf post u d := by
  obtain ⟨f0, f1, f2, a⟩ := u
  exact ⟨by decide, nm_e ⟨19, zd_lgL 18 0 1 _ (by omega) h⟩⟩
/-! ===== the short decimal ===== -/
def zd_i9 (v : Int64) (q : Int32) (away p k : Int64) (s : Int32 × Int32) : Int32 × Int32 :=
  if zd_ab (k * p - v) < away then (k.toInt32, q) else (if zd_ab (k * p - v) = away then (if s.1.toInt64 ≤ k then s else (k.toInt32, q)) else s)
def zd_i8 (c : Int32) (v : Int64) (q : Int32) (away p z : Int64) (s : Int32 × Int32) : Int32 × Int32 :=
  if z < zd_lm c p then s else zd_i9 v q away p (zd_nm v p (zd_lm c p) z) s
theorem zd_i8W {post : St1 → Prop} {f0 sd ss : Int32} {a : Nat → Int32} {c : Int32} {v : Int64} {q : Int32} {away p z : Int64} (hp : ¬ p = 0)
    (h : (fun r : Int32 × Int32 => post (f0, r.1, r.2, a)) (zd_i8 c v q away p z (sd, ss))) : wX_improve_68 post c v q away p z f0 sd ss a := by
  unfold zd_i8 at h
  refine zd_lmW hp (zd_if (post := fun r : Int32 × Int32 => post (f0, r.1, r.2, a)) id (fun h => zd_nmW hp (zd_abW ?_)) h)
  unfold zd_i9 at h
  exact zd_if (post := fun r : Int32 × Int32 => post (f0, r.1, r.2, a)) id (fun h => zd_if (post := fun r : Int32 × Int32 => post (f0, r.1, r.2, a)) (fun h => zd_if (post := fun r : Int32 × Int32 => post (f0, r.1, r.2, a)) id id h) id h) h
def zd_pw (q : Int32) : Int64 := 1024 * zd_ten (12 + q).toNatClampNeg
def zd_im (c : Int32) (v : Int64) (q : Int32) (away : Int64) (s : Int32 × Int32) : Int32 × Int32 :=
  if -12 ≤ q then (if zd_gm c (zd_pw q) ≤ zd_ten (zd_lo s.1.toInt64).toNatClampNeg - 1 then zd_i8 c v q away (zd_pw q) (zd_gm c (zd_pw q)) s else zd_i8 c v q away (zd_pw q) (zd_ten (zd_lo s.1.toInt64).toNatClampNeg - 1) s) else s
theorem zd_imW {post : St1 → Prop} {f0 sd ss : Int32} {a : Nat → Int32} {c : Int32} {v : Int64} {q : Int32} {away : Int64} (hp : -12 ≤ q → ¬ zd_pw q = 0)
    (h : (fun r : Int32 × Int32 => post (f0, r.1, r.2, a)) (zd_im c v q away (sd, ss))) : wpX_improve post (f0, sd, ss, a) c v q away := by
  refine br_c (fun hq => ?_) (fun hq => ?_)
  · unfold zd_im at h
    rw [if_pos hq] at h
    refine zd_tenW (nm_r (e' := zd_pw q) rfl (zd_loW (zd_gmW (hp hq) (zd_tenW (nm_e ?_)))))
    exact zd_if (post := fun r : Int32 × Int32 => post (f0, r.1, r.2, a)) (fun h => zd_i8W (hp hq) h) (fun h => zd_i8W (hp hq) h) h
  · unfold zd_im at h
    rw [if_neg hq] at h
    exact h
def zd_q (k : Nat) : Int32 := nI k - 13
theorem zd_qs (k : Nat) : zd_q (k + 1) + (-1) = zd_q k := by
  unfold zd_q
  rw [nI_succ]
  grind
theorem zd_q1 : ∀ k, k < 16 → ¬ zd_q (k + 1) < -12 := by decide +kernel
theorem zd_q2 : ∀ k, k < 16 → ¬ zd_pw (zd_q (k + 1)) = 0 := by decide +kernel
theorem zd_q3 : ∀ k, k < 16 → -12 ≤ zd_q (k + 1) - 1 → ¬ zd_pw (zd_q (k + 1) - 1) = 0 := by decide +kernel
def zd_f2 (c : Int32) (v : Int64) (q : Int32) (p k : Int64) : Int32 × Int32 := zd_im c v (q - 1) (zd_ab (k * p - v)) (k.toInt32, q)
def zd_fs (c : Int32) (v : Int64) : Nat → Int32 × Int32
  | 0 => (0, 0)
  | k + 1 => if zd_gm c (zd_pw (zd_q (k + 1))) < zd_lm c (zd_pw (zd_q (k + 1))) then zd_fs c v k else
      zd_f2 c v (zd_q (k + 1)) (zd_pw (zd_q (k + 1))) (zd_nm v (zd_pw (zd_q (k + 1))) (zd_lm c (zd_pw (zd_q (k + 1)))) (zd_gm c (zd_pw (zd_q (k + 1)))))
theorem zd_fsL {post : St1 → Prop} {f0 : Int32} {a : Nat → Int32} {c : Int32} {v : Int64} : ∀ k, k ≤ 16 → (fun r : Int32 × Int32 => post (f0, r.1, r.2, a)) (zd_fs c v k) → wX_findShort_27 post c v (k + 2) 0 (zd_q k) f0 0 0 a
  | 0, _, h => br_t (by decide +kernel) h
  | k + 1, hk, h => by
    unfold zd_fs at h
    have hp := zd_q2 k (by omega)
    refine br_f (zd_q1 k (by omega)) (br_t rfl (zd_tenW (nm_r (e' := zd_pw (zd_q (k + 1))) rfl (zd_lmW hp (zd_gmW hp ?_)))))
    refine zd_if (post := fun r : Int32 × Int32 => post (f0, r.1, r.2, a)) (fun h => nm_r (zd_qs k) (zd_fsL k (by omega) h)) (fun h => zd_nmW hp (zd_abW (zd_imW (zd_q3 k (by omega)) ?_))) h
    refine nm_e ?_
    exact br_c (fun _ => h) (fun _ => br_f (by decide) h)
def zd_fi (c : Int32) : Int32 × Int32 := if c = 0 then (0, 0) else zd_fs c (zd_st c) 16
theorem zd_fiW {post : St1 → Prop} {f0 sd ss : Int32} {a : Nat → Int32} {c : Int32} (h : post (f0, (zd_fi c).1, (zd_fi c).2, a)) : wpX_findShort post (f0, sd, ss, a) c := by
  have h' : (fun r : Int32 × Int32 => post (f0, r.1, r.2, a)) (zd_fi c) := h
  unfold zd_fi at h'
  exact zd_if (post := fun r : Int32 × Int32 => post (f0, r.1, r.2, a)) id (fun h => zd_stW ⟨18, zd_fsL 16 (by omega) h⟩) h'
theorem zd_dgW {post : Int32 → St1 → Prop} {f0 sd ss : Int32} {a : Nat → Int32} {c : Int32} (h0 : ¬ c < 0) (h1 : c < 1024) (h : post (zd_fi c).1 (f0, (zd_fi c).1, (zd_fi c).2, a)) : wpX_digits post (f0, sd, ss, a) c := by
  unfold wpX_digits
  dsimp only
  exact zd_bcW h0 h1 (br_t rfl (zd_fiW h))
theorem zd_scW {post : Int32 → St1 → Prop} {f0 sd ss : Int32} {a : Nat → Int32} {c : Int32} (h0 : ¬ c < 0) (h1 : c < 1024) (h : post (zd_fi c).2 (f0, (zd_fi c).1, (zd_fi c).2, a)) : wpX_scale post (f0, sd, ss, a) c := by
  unfold wpX_scale
  dsimp only
  exact zd_bcW h0 h1 (br_t rfl (zd_fiW h))
theorem zd_leW {post : Int32 → St1 → Prop} {f0 sd ss : Int32} {a : Nat → Int32} {c : Int32} (h0 : ¬ c < 0) (h1 : c < 1024) (h : post (zd_lo (zd_fi c).1.toInt64) (f0, (zd_fi c).1, (zd_fi c).2, a)) : wpX_length post (f0, sd, ss, a) c := by
  unfold wpX_length
  dsimp only
  exact zd_bcW h0 h1 (br_t rfl (zd_fiW (zd_loW h)))
/-! ===== places ===== -/
def zd_wk (k : Int64) (r : Int64) : Int32 := if 256 < r then (k + 1).toInt32 else (if r = 256 then (if k &&& 1 = 1 then (k + 1).toInt32 else k.toInt32) else k.toInt32)
def zd_wn (c p : Int32) : Int64 := (zd_un c).toInt64 * zd_ten p.toNatClampNeg
def zd_ww (c p : Int32) : Int32 := zd_wk (zd_wn c p >>> ((9 : Int32).toInt64 &&& 63)) (zd_wn c p &&& 511)
theorem zd_wwW {post : Int32 → Prop} {u : St1} {c p : Int32} (h : post (zd_ww c p)) : wpX_writtenWith post u c p := by
  obtain ⟨f0, f1, f2, a⟩ := u
  unfold wpX_writtenWith
  dsimp only
  unfold zd_ww zd_wk at h
  have up : ∀ k : Int64, post (k + 1).toInt32 → wX_writtenWith_53 post k f0 f1 f2 a := fun k h => br_f (by decide) h
  have dn : ∀ k : Int64, post k.toInt32 → wX_writtenWith_57 post k f0 f1 f2 a := fun k h => br_t rfl h
  exact zd_unW (zd_tenW (nm_r (e' := zd_wn c p) rfl (nm_e (nm_e (zd_if (post := post) (up _) (fun h => zd_if (post := post) (fun h => zd_if (post := post) (up _) (dn _) h) (dn _) h) h)))))
def zd_nd (c : Int32) (n : Int64) : Int32 := if 4177920000000000000 ≤ n then 0 else (if zd_nr n = c then 1 else 0)
theorem zd_ndW {post : Int32 → Prop} {u : St1} {c : Int32} {n : Int64} (h : post (zd_nd c n)) : wpX_named post u c n := by
  obtain ⟨f0, f1, f2, a⟩ := u
  unfold zd_nd at h
  exact zd_if (post := post) id (fun h => zd_nrW (zd_if (post := post) id id h)) h
def zd_pl (c : Int32) : Nat → Int32
  | 0 => 5
  | k + 1 => if zd_nd c (zd_so (zd_ww c (nI (4 - k))) (-nI (4 - k))) = 0 then zd_pl c k else nI (4 - k)
theorem zd_pl0 : ∀ k, k < 5 → ¬ zd_ten (- -nI k).toNatClampNeg = 0 := by decide +kernel
theorem zd_plL {post : Int32 → Prop} {f0 f1 f2 : Int32} {a : Nat → Int32} {c : Int32} : ∀ k i, i + k = 5 → post (zd_pl c k) → wX_places_12 post c f0 f1 f2 a (k + 1) (nI i)
  | 0, i, hi, h => by
    have : i = 5 := by omega
    subst this
    exact br_t (by decide) h
  | k + 1, i, hi, h => by
    have : i = 4 - k := by omega
    subst this
    unfold zd_pl at h
    refine br_f (nI_ge (b := 5) (by omega) (by decide)) (zd_wwW (zd_soW (zd_pl0 _ (by omega)) (zd_ndW (zd_if (post := post) (fun h => nm_r (nI_1 _) (zd_plL k _ (by omega) h)) id h))))
theorem zd_plW {post : Int32 → Prop} {u : St1} {c : Int32} (h0 : ¬ c < 0) (h1 : c < 1024) (h : post (zd_pl c 5)) : wpX_places post u c := by
  obtain ⟨f0, f1, f2, a⟩ := u
  unfold wpX_places
  dsimp only
  exact zd_bcW h0 h1 (br_t rfl ⟨6, zd_plL 5 0 (by omega) h⟩)
theorem zd_wrW {post : Int32 → Prop} {u : St1} {c p : Int32} (h0 : ¬ c < 0) (h1 : c < 1024) (p0 : ¬ p < 0) (p1 : p ≤ 5) (h : post (zd_ww c p)) : wpX_written post u c p := by
  obtain ⟨f0, f1, f2, a⟩ := u
  unfold wpX_written
  dsimp only
  exact zd_bcW h0 h1 (br_t rfl (br_f p0 (br_t p1 (zd_wwW h))))
/-! ===== the law's size ===== -/
def zd_sg : Nat → Int32 → Int32 → Int32
  | 0, n, _ => n
  | k + 1, n, r => if r ≤ 9 then zd_sg k n (r / 10) else zd_sg k (n + 1) (r / 10)
theorem zd_sgL {post : Int32 → Prop} : ∀ k i n r, i + k = 9 → post (zd_sg k n r) → wL_size_6 post (k + 1) n r (nI i)
  | 0, i, n, r, hi, h => by
    have : i = 9 := by omega
    subst this
    exact br_t (by decide) h
  | k + 1, i, n, r, hi, h => by
    unfold zd_sg at h
    exact br_f (nI_ge (b := 9) (by omega) (by decide)) (zd_if (post := post) (fun h => ⟨by decide, nm_e (nm_r (nI_1 i) (zd_sgL k (i + 1) _ _ (by omega) h))⟩) (fun h => nm_e ⟨by decide, nm_e (nm_r (nI_1 i) (zd_sgL k (i + 1) _ _ (by omega) h))⟩) h)
def zd_sz (d : Int32) : Int32 := zd_sg 9 1 d
theorem zd_szW {post : Int32 → Prop} {u : St2} {d : Int32} (h : post (zd_sz d)) : wpL_size post u d :=
  ⟨10, zd_sgL 9 0 1 d (by omega) h⟩
end
section
/-! ===== the text: how many digits, the digits, the scale ===== -/
def zd_dn (a : Nat → Int32) : Nat → Nat
  | 0 => 0
  | n + 1 => if a n = 10 then zd_dn a n else zd_dn a n + 1
def zd_td (a : Nat → Int32) : Nat → Int32
  | 0 => 0
  | n + 1 => if a n = 10 then zd_td a n else zd_td a n * 10 + a n
def zd_ts (a : Nat → Int32) : Nat → Int32 × Int32
  | 0 => (0, 0)
  | n + 1 => if a n = 10 then ((zd_ts a n).1, 1) else (if (zd_ts a n).2 = 0 then ((zd_ts a n).1, (zd_ts a n).2) else ((zd_ts a n).1 + (-1), (zd_ts a n).2))
/-- at most eight digits and at most one point -/
def zd_OK (n : Nat) (a : Nat → Int32) : Prop := zd_dn a n ≤ 8 ∧ n ≤ zd_dn a n + 1
theorem zd_OK0 (a : Nat → Int32) : zd_OK 0 a := ⟨by show 0 ≤ 8; omega, by show 0 ≤ 0 + 1; omega⟩
theorem zd_OKb {n : Nat} {a : Nat → Int32} (h : zd_OK (n + 1) a) : zd_OK n a := by
  obtain ⟨h1, h2⟩ := h
  unfold zd_dn at h1 h2
  by_cases e : a n = 10
  · rw [if_pos e] at h1 h2
    exact ⟨h1, by omega⟩
  · rw [if_neg e] at h1 h2
    exact ⟨by omega, by omega⟩
theorem zd_dnC {a b : Nat → Int32} : ∀ n, (∀ j, j < n → a j = b j) → zd_dn a n = zd_dn b n
  | 0, _ => rfl
  | n + 1, h => by
    unfold zd_dn
    rw [zd_dnC n (fun j hj => h j (by omega)), h n (by omega)]
theorem zd_tdC {a b : Nat → Int32} : ∀ n, (∀ j, j < n → a j = b j) → zd_td a n = zd_td b n
  | 0, _ => rfl
  | n + 1, h => by
    unfold zd_td
    rw [zd_tdC n (fun j hj => h j (by omega)), h n (by omega)]
theorem zd_tsC {a b : Nat → Int32} : ∀ n, (∀ j, j < n → a j = b j) → zd_ts a n = zd_ts b n
  | 0, _ => rfl
  | n + 1, h => by
    unfold zd_ts
    rw [zd_tsC n (fun j hj => h j (by omega)), h n (by omega)]
theorem zd_up (a : Nat → Int32) (n : Nat) (x : Int32) : ∀ j, j < n → upd a n x j = a j :=
  fun j hj => pk_un (by omega)
theorem zd_tsB (a : Nat → Int32) : ∀ n, ∃ m, m ≤ n ∧ (zd_ts a n).1 = -nI m
  | 0 => ⟨0, Nat.le_refl 0, (by decide : (0 : Int32) = -nI 0)⟩
  | n + 1 => by
    obtain ⟨m, hm, e⟩ := zd_tsB a n
    unfold zd_ts
    by_cases e1 : a n = 10
    · rw [if_pos e1]
      exact ⟨m, by omega, e⟩
    · rw [if_neg e1]
      by_cases e2 : (zd_ts a n).2 = 0
      · rw [if_pos e2]
        exact ⟨m, by omega, e⟩
      · rw [if_neg e2]
        refine ⟨m + 1, by omega, ?_⟩
        show (zd_ts a n).1 + (-1) = -nI (m + 1)
        rw [e, nI_succ]
        grind
theorem zd_mm : ∀ m, m < 10 → ¬ zd_ten (- -nI m).toNatClampNeg = 0 := by decide +kernel
theorem zd_tsN (a : Nat → Int32) {n : Nat} (hn : n ≤ 9) : ¬ zd_ten (-(zd_ts a n).1).toNatClampNeg = 0 := by
  obtain ⟨m, hm, e⟩ := zd_tsB a n
  rw [e]
  exact zd_mm m (by omega)
section
variable {post : Int32 → Prop} {f1 f2 : Int32} {a : Nat → Int32} {n : Nat}
theorem zd_dnL (hn : n ≤ 9) (H : post (nI (zd_dn a n))) : ∀ c i, i + c = n → wX_digitsTyped_4 post (nI n) f1 f2 a (c + 1) (nI (zd_dn a i)) (nI i)
  | 0, i, h => by
    have : i = n := by omega
    subst this
    exact br_t (nI_le (by omega) (by omega)) H
  | c + 1, i, h => by
    refine br_f (nI_ge (by omega) (by omega)) ⟨vp_in_nI (by omega) (by decide), ?_⟩
    rw [nI_clamp (show i < 2 ^ 31 by omega)]
    have ih := zd_dnL hn H c (i + 1) (by omega)
    unfold zd_dn at ih
    refine br_c (fun e => ?_) (fun e => ?_)
    · rw [if_pos e] at ih
      exact nm_r (nI_1 i) ih
    · rw [if_neg e] at ih
      exact nm_r (nI_1 _) (nm_r (nI_1 i) ih)
theorem zd_dnW (hn : n ≤ 9) (H : post (nI (zd_dn a n))) : wpX_digitsTyped post (nI n, f1, f2, a) :=
  ⟨n + 1, zd_dnL hn H n 0 (by omega)⟩
theorem zd_tdL (hn : n ≤ 9) (H : post (zd_td a n)) : ∀ c i, i + c = n → wX_textDigits_4 post (nI n) f1 f2 a (c + 1) (zd_td a i) (nI i)
  | 0, i, h => by
    have : i = n := by omega
    subst this
    exact br_t (nI_le (by omega) (by omega)) H
  | c + 1, i, h => by
    refine br_f (nI_ge (by omega) (by omega)) ⟨vp_in_nI (by omega) (by decide), ?_⟩
    rw [nI_clamp (show i < 2 ^ 31 by omega)]
    have ih := zd_tdL hn H c (i + 1) (by omega)
    unfold zd_td at ih
    refine br_c (fun e => ?_) (fun e => ?_)
    · rw [if_pos e] at ih
      exact nm_r (nI_1 i) ih
    · rw [if_neg e] at ih
      exact ⟨vp_in_nI (by omega) (by decide), nm_e (nm_r (nI_1 i) ih)⟩
theorem zd_tdW (hn : n ≤ 9) (H : post (zd_td a n)) : wpX_textDigits post (nI n, f1, f2, a) :=
  ⟨n + 1, zd_tdL hn H n 0 (by omega)⟩
theorem zd_tsL (hn : n ≤ 9) (H : post (zd_ts a n).1) : ∀ c i, i + c = n → wX_textScale_6 post (nI n) f1 f2 a (c + 1) (zd_ts a i).1 (zd_ts a i).2 (nI i)
  | 0, i, h => by
    have : i = n := by omega
    subst this
    exact br_t (nI_le (by omega) (by omega)) H
  | c + 1, i, h => by
    refine br_f (nI_ge (by omega) (by omega)) ⟨vp_in_nI (by omega) (by decide), ?_⟩
    rw [nI_clamp (show i < 2 ^ 31 by omega)]
    have ih := zd_tsL hn H c (i + 1) (by omega)
    unfold zd_ts at ih
    refine br_c (fun e => ?_) (fun e => ?_)
    · rw [if_pos e] at ih
      exact nm_r (nI_1 i) ih
    · rw [if_neg e] at ih
      refine br_c (fun e2 => ?_) (fun e2 => ?_)
      · rw [if_pos e2] at ih
        exact nm_r (nI_1 i) ih
      · rw [if_neg e2] at ih
        exact nm_e (nm_r (nI_1 i) ih)
theorem zd_tsW (hn : n ≤ 9) (H : post (zd_ts a n).1) : wpX_textScale post (nI n, f1, f2, a) :=
  ⟨n + 1, zd_tsL hn H n 0 (by omega)⟩
def zd_ty (a : Nat → Int32) (n : Nat) : Int32 := zd_nr (zd_so (zd_td a n) (zd_ts a n).1)
theorem zd_tyW (hn : n ≤ 9) (H : post (zd_ty a n)) : wpX_typed post (nI n, f1, f2, a) := by
  unfold wpX_typed
  dsimp only
  refine zd_tdW hn ?_
  unfold wpX_reading
  dsimp only
  exact zd_tsW hn (zd_soW (zd_tsN a hn) (zd_nrW H))
theorem zd_tdgW (hn : n ≤ 9) (H : post (zd_td a n)) : wpX_typedDigits post (nI n, f1, f2, a) := by
  unfold wpX_typedDigits
  exact zd_tdW hn H
end
theorem zd_tyC {a b : Nat → Int32} (n : Nat) (h : ∀ j, j < n → a j = b j) : zd_ty a n = zd_ty b n := by
  unfold zd_ty
  rw [zd_tdC n h, zd_tsC n h]
/-! ===== typing ===== -/
section
variable {post : Int32 → St1 → Prop} {f1 f2 : Int32} {a : Nat → Int32} {n : Nat}
theorem zd_t53 {x : Int32} {m : Nat} (hn : n < 9) (hm : m ≤ 8) (H : ∀ r, 0 ≤ r → post r (nI (n + 1), f1, f2, upd a n x)) : wX_type_53 post x (nI m) (nI n) f1 f2 a := by
  refine ⟨vp_in_nI hn (by decide), ?_⟩
  rw [nI_clamp (show n < 2 ^ 31 by omega)]
  refine nm_e (nm_r (nI_1 n) (br_c (fun _ => H _ (nI_pos' (by omega))) (fun _ => H _ ?_)))
  rw [nI_1]
  exact nI_pos' (by omega)
theorem zd_typeW {x : Int32} (h : zd_OK n a)
    (H1 : ∀ r, (r = -2 ∨ (r = -1 ∧ ¬ (¬ x < 0 ∧ x ≤ 10))) → post r (nI n, f1, f2, a))
    (H2 : n < 9 → zd_OK (n + 1) (upd a n x) → ∀ r, 0 ≤ r → post r (nI (n + 1), f1, f2, upd a n x)) : wpX_type post (nI n, f1, f2, a) x := by
  obtain ⟨h1, h2⟩ := h
  refine br_c (fun g => H1 _ (Or.inr ⟨rfl, fun t => t.1 g⟩)) (fun g => br_c (fun g2 => zd_dnW (by omega) ?_) (fun g2 => H1 _ (Or.inr ⟨rfl, fun t => g2 t.2⟩)))
  have hd : zd_dn (upd a n x) (n + 1) = if x = 10 then zd_dn a n else zd_dn a n + 1 := by
    show (if upd a n x n = 10 then zd_dn (upd a n x) n else zd_dn (upd a n x) n + 1) = _
    rw [pk_us, zd_dnC n (zd_up a n x)]
  have st10 : x = 10 → n ≤ zd_dn a n → wX_type_53 post x (nI (zd_dn a n)) (nI n) f1 f2 a := fun e g =>
    zd_t53 (by omega) h1 (H2 (by omega) (by
      unfold zd_OK
      rw [hd, if_pos e]
      exact ⟨h1, by omega⟩))
  have stD : ¬ x = 10 → ¬ nI (zd_dn a n) = 8 → wX_type_53 post x (nI (zd_dn a n)) (nI n) f1 f2 a := fun e g => by
    have g' : zd_dn a n ≠ 8 := fun t => g (by rw [t]; rfl)
    exact zd_t53 (by omega) h1 (H2 (by omega) (by
      unfold zd_OK
      rw [hd, if_neg e]
      exact ⟨by omega, by omega⟩))
  exact pk_le n (zd_dn a n)
    (fun g => br_c (fun e => br_t rfl (st10 e g)) (fun e => br_c (fun _ => H1 _ (Or.inl rfl)) (fun e2 => stD e e2)))
    (fun g => br_c (fun e => br_f (by decide) (H1 _ (Or.inl rfl))) (fun e => br_c (fun _ => H1 _ (Or.inl rfl)) (fun e2 => stD e e2)))
theorem zd_backW (hn : n + 1 ≤ 9) (H : post (a n) (nI n, f1, f2, a)) : wpX_back post (nI (n + 1), f1, f2, a) := by
  refine br_f (nI_ne0 (by omega) (by omega)) (nm_r (nI_pred n) ⟨vp_in_nI (by omega) (by decide), ?_⟩)
  rw [nI_clamp (show n < 2 ^ 31 by omega)]
  exact H
theorem zd_turnW {o x : Int32} (h : zd_OK n a) (H : ∀ r n' a', zd_OK n' a' → post r (nI n', f1, f2, a')) : wpL_turn post (nI n, f1, f2, a) o x := by
  refine nm_e (br_c (fun _ => br_c (fun _ => ?_) (fun _ => br_c (fun _ => H _ n a h) (fun _ => H 0 0 a (zd_OK0 a)))) (fun _ => ?_))
  · cases n with
    | zero => exact br_t rfl (H _ 0 a h)
    | succ n =>
      have h9 : n + 1 ≤ 9 := by
        have := h.1
        have := h.2
        omega
      exact zd_backW h9 (H _ n a (zd_OKb h))
  · exact zd_typeW h (fun r _ => H r n a h) (fun _ ok r _ => H r (n + 1) _ ok)
end
end
section
/-! ===== the law's checks of one code, computed ===== -/
def zd_ck (c : Int32) : Bool :=
  decide (¬ zd_pl c 5 < 0) && (decide (zd_pl c 5 ≤ 5) && (decide (¬ zd_ten (-(zd_fi c).2).toNatClampNeg = 0) && (decide (zd_rd (zd_fi c).1 (zd_fi c).2 = c)
  && (decide ((zd_fi c).1 - (zd_fi c).1 / 10 * 10 = 0 ↔ c = 0) && (decide (zd_lo (zd_fi c).1.toInt64 = zd_sz (zd_fi c).1)
  && ((decide (zd_ww c (zd_pl c 5) - zd_ww c (zd_pl c 5) / 10 * 10 = 0) || decide (¬ zd_sz (zd_ww c (zd_pl c 5)) < zd_lo (zd_fi c).1.toInt64))
  && ((decide (c ≤ 0) || decide (¬ zd_un c ≤ zd_un (c - 1))) && (decide (¬ zd_co c (zd_un c / 512) 0 = 0) || decide (zd_rd (zd_un c / 512) 0 = c)))))))))
theorem zd_ck0 : ∀ j, j < 64 → zd_ck (nI (0 + j)) = true := by decide +kernel
theorem zd_ck1 : ∀ j, j < 64 → zd_ck (nI (64 + j)) = true := by decide +kernel
theorem zd_ck2 : ∀ j, j < 64 → zd_ck (nI (128 + j)) = true := by decide +kernel
theorem zd_ck3 : ∀ j, j < 64 → zd_ck (nI (192 + j)) = true := by decide +kernel
theorem zd_ck4 : ∀ j, j < 64 → zd_ck (nI (256 + j)) = true := by decide +kernel
theorem zd_ck5 : ∀ j, j < 64 → zd_ck (nI (320 + j)) = true := by decide +kernel
theorem zd_ck6 : ∀ j, j < 64 → zd_ck (nI (384 + j)) = true := by decide +kernel
theorem zd_ck7 : ∀ j, j < 64 → zd_ck (nI (448 + j)) = true := by decide +kernel
theorem zd_ck8 : ∀ j, j < 64 → zd_ck (nI (512 + j)) = true := by decide +kernel
theorem zd_ck9 : ∀ j, j < 64 → zd_ck (nI (576 + j)) = true := by decide +kernel
theorem zd_ck10 : ∀ j, j < 64 → zd_ck (nI (640 + j)) = true := by decide +kernel
theorem zd_ck11 : ∀ j, j < 64 → zd_ck (nI (704 + j)) = true := by decide +kernel
theorem zd_ck12 : ∀ j, j < 64 → zd_ck (nI (768 + j)) = true := by decide +kernel
theorem zd_ck13 : ∀ j, j < 64 → zd_ck (nI (832 + j)) = true := by decide +kernel
theorem zd_ck14 : ∀ j, j < 64 → zd_ck (nI (896 + j)) = true := by decide +kernel
theorem zd_ck15 : ∀ j, j < 64 → zd_ck (nI (960 + j)) = true := by decide +kernel
theorem zd_ckAll (j : Nat) (hj : j < 1024) : zd_ck (nI j) = true := by
  by_cases h0 : j < 64
  · have h := zd_ck0 (j - 0) (by omega)
    rwa [show 0 + (j - 0) = j by omega] at h
  by_cases h1 : j < 128
  · have h := zd_ck1 (j - 64) (by omega)
    rwa [show 64 + (j - 64) = j by omega] at h
  by_cases h2 : j < 192
  · have h := zd_ck2 (j - 128) (by omega)
    rwa [show 128 + (j - 128) = j by omega] at h
  by_cases h3 : j < 256
  · have h := zd_ck3 (j - 192) (by omega)
    rwa [show 192 + (j - 192) = j by omega] at h
  by_cases h4 : j < 320
  · have h := zd_ck4 (j - 256) (by omega)
    rwa [show 256 + (j - 256) = j by omega] at h
  by_cases h5 : j < 384
  · have h := zd_ck5 (j - 320) (by omega)
    rwa [show 320 + (j - 320) = j by omega] at h
  by_cases h6 : j < 448
  · have h := zd_ck6 (j - 384) (by omega)
    rwa [show 384 + (j - 384) = j by omega] at h
  by_cases h7 : j < 512
  · have h := zd_ck7 (j - 448) (by omega)
    rwa [show 448 + (j - 448) = j by omega] at h
  by_cases h8 : j < 576
  · have h := zd_ck8 (j - 512) (by omega)
    rwa [show 512 + (j - 512) = j by omega] at h
  by_cases h9 : j < 640
  · have h := zd_ck9 (j - 576) (by omega)
    rwa [show 576 + (j - 576) = j by omega] at h
  by_cases h10 : j < 704
  · have h := zd_ck10 (j - 640) (by omega)
    rwa [show 640 + (j - 640) = j by omega] at h
  by_cases h11 : j < 768
  · have h := zd_ck11 (j - 704) (by omega)
    rwa [show 704 + (j - 704) = j by omega] at h
  by_cases h12 : j < 832
  · have h := zd_ck12 (j - 768) (by omega)
    rwa [show 768 + (j - 768) = j by omega] at h
  by_cases h13 : j < 896
  · have h := zd_ck13 (j - 832) (by omega)
    rwa [show 832 + (j - 832) = j by omega] at h
  by_cases h14 : j < 960
  · have h := zd_ck14 (j - 896) (by omega)
    rwa [show 896 + (j - 896) = j by omega] at h
  by_cases h15 : j < 1024
  · have h := zd_ck15 (j - 960) (by omega)
    rwa [show 960 + (j - 960) = j by omega] at h
  omega
end
section
/-! ===== the law: one code ===== -/
section
variable {L : Nat} {xs : Nat → Int32} {J : Int32 → Int32 → Int32 → Int32 → (Nat → Int32) → Prop} {x2 x3 c : Int32} {kc ks : Nat} {f0 : Int32} {a : Nat → Int32}
theorem zd_234 {sd ss : Int32} (h0 : ¬ c < 0) (h1 : c < 1024) (k9 : ¬ zd_co c (zd_un c / 512) 0 = 0 ∨ zd_rd (zd_un c / 512) 0 = c) (HJ : J (x3 + 1) f0 sd ss a) :
    wL_law_234 (fun r => r = 1) L xs J x2 x3 c kc ks f0 sd ss a := by
  unfold wL_law_234
  exact zd_usW h0 h1 ⟨by decide, nm_e (zd_coW h0 h1 (by decide +kernel) (br_c (fun g => zd_rdW (by decide +kernel) (br_t (k9.resolve_left (fun t => t g)) (nm_e HJ))) (fun _ => nm_e HJ)))⟩
theorem zd_206 {sd ss d q : Int32} (h0 : ¬ c < 0) (h1 : c < 1024) (hq : ¬ zd_ten (-q).toNatClampNeg = 0) (hr : zd_rd d q = c)
    (H : wL_law_234 (fun r => r = 1) L xs J x2 x3 c kc ks f0 sd ss a) : wL_law_206 (fun r => r = 1) L xs J x2 x3 c d q kc ks f0 sd ss a := by
  unfold wL_law_206
  exact zd_coW h0 h1 hq (br_c (fun _ => zd_rdW hq (br_t hr H)) (fun _ => H))
theorem zd_168 {sd ss d q : Int32} (h0 : ¬ c < 0) (h1 : c < 1024) (hc : ¬ c ≤ 0 → ¬ c - 1 < 0 ∧ c - 1 < 1024) (k6 : zd_lo (zd_fi c).1.toInt64 = zd_sz d) (k8 : c ≤ 0 ∨ ¬ zd_un c ≤ zd_un (c - 1))
    (H : wL_law_206 (fun r => r = 1) L xs J x2 x3 c d q kc ks f0 (zd_fi c).1 (zd_fi c).2 a) : wL_law_168 (fun r => r = 1) L xs J x2 x3 c d q kc ks f0 sd ss a := by
  unfold wL_law_168
  exact zd_leW h0 h1 (zd_szW (br_t k6 (br_c (fun _ => H) (fun g => zd_usW h0 h1 (zd_usW (hc g).1 (hc g).2 (br_f (k8.resolve_left g) H))))))
theorem zd_143 {sd ss d q w z : Int32} (h0 : ¬ c < 0) (h1 : c < 1024) (k7 : w - w / 10 * 10 = 0 ∨ ¬ zd_sz w < zd_lo (zd_fi c).1.toInt64)
    (H : ∀ sd ss, wL_law_168 (fun r => r = 1) L xs J x2 x3 c d q kc ks f0 sd ss a) : wL_law_143 (fun r => r = 1) L xs J x2 x3 c d q w z z kc ks f0 sd ss a :=
  br_t rfl ⟨by decide, br_c (fun _ => H sd ss) (fun g => zd_leW h0 h1 (zd_szW (br_f (k7.resolve_left g) (H _ _))))⟩
end
theorem zd_cp : ∀ j, j < 1024 → ¬ nI j < 0 ∧ nI j < 1024 ∧ (¬ nI j ≤ 0 → ¬ nI j - 1 < 0 ∧ nI j - 1 < 1024) := by decide +kernel
theorem zd_cell {L : Nat} {xs : Nat → Int32} {x2 : Int32} {kc ks n i : Nat} {f0 sd ss : Int32} {a : Nat → Int32} (hi : i < 12)
    (HJ : ∀ sd ss, wL_law_52 (fun r => r = 1) L xs x2 kc ks n (nI (i + 1)) f0 sd ss a) : wL_law_52 (fun r => r = 1) L xs x2 kc ks (n + 1) (nI i) f0 sd ss a := by
  obtain ⟨j, hj, e⟩ := pk_andE ((x2 &&& 63) + (83 * nI i)) (m := 1023) 10 (by decide)
  obtain ⟨h0, h1, hc⟩ := zd_cp j hj
  have hk := zd_ckAll j hj
  simp only [zd_ck, Bool.and_eq_true, Bool.or_eq_true, decide_eq_true_eq] at hk
  obtain ⟨k1, k2, k3, k4, k5, k6, k7, k8, k9⟩ := hk
  rw [← nI_1] at HJ
  have H3 : ∀ sd ss, wL_law_168 (fun r => r = 1) L xs (wL_law_52 (fun r => r = 1) L xs x2 kc ks n) x2 (nI i) (nI j) (zd_fi (nI j)).1 (zd_fi (nI j)).2 kc ks f0 sd ss a :=
    fun sd ss => zd_168 h0 h1 hc k6 k8 (zd_206 h0 h1 k3 k4 (zd_234 h0 h1 k9 (HJ _ _)))
  refine br_f (nI_ge (b := 12) hi (by decide)) (nm_r e (zd_dgW h0 h1 (zd_scW h0 h1 (zd_plW h0 h1 (zd_wrW h0 h1 k1 k2 (zd_rdW k3 (br_t k4 ⟨by decide, br_c (fun g => ?_) (fun g => ?_)⟩)))))))
  · exact br_t (k5.mp g) (zd_143 h0 h1 k7 H3)
  · exact br_f (fun t => g (k5.mpr t)) (zd_143 h0 h1 k7 H3)
/-! ===== the law: behind the codes ===== -/
def zd_X (x2 : Int32) : Int32 := ((x2 >>> ((6 : Int32) &&& 31)) &&& 15) - ((x2 >>> ((6 : Int32) &&& 31)) &&& 15) / 11 * 11
theorem zd_X0 : ∀ j, j < 16 → ¬ nI j - nI j / 11 * 11 < 0 ∧ nI j - nI j / 11 * 11 ≤ 10 := by decide +kernel
theorem zd_X1 (x2 : Int32) : ¬ zd_X x2 < 0 ∧ zd_X x2 ≤ 10 := by
  obtain ⟨j, hj, e⟩ := pk_andE (x2 >>> ((6 : Int32) &&& 31)) (m := 15) 4 (by decide)
  unfold zd_X
  rw [e]
  exact zd_X0 j hj
section
variable {L : Nat} {xs : Nat → Int32} {x2 : Int32} {kc ks : Nat} {f1 f2 : Int32} {a : Nat → Int32} {n : Nat}
theorem zd_323 {b : Nat → Int32} {x5 z : Int32} (hn : n ≤ 9) (hb : ∀ j, j < n → b j = a j) (z1 : 0 ≤ x5 → z = zd_X x2) (z2 : ¬ 0 ≤ x5 → z = -2) :
    wL_law_323 (fun r => r = 1) L xs x2 (zd_ty a n) (zd_td a n) x5 z kc ks (nI n) f1 f2 b := by
  unfold wL_law_323
  exact zd_tyW hn (br_t (zd_tyC n hb) (zd_tdgW hn (br_t (zd_tdC n hb) (br_c (fun h => ⟨by decide, br_t (z1 h) rfl⟩) (fun h => br_t (z2 h) rfl)))))
theorem zd_end {k : Nat} (h : zd_OK n a) : wL_law_52 (fun r => r = 1) L xs x2 kc ks (k + 1) (nI 12) (nI n) f1 f2 a := by
  have hn : n ≤ 9 := by
    have := h.1
    have := h.2
    omega
  refine br_t (by decide) (zd_tyW hn (zd_tdgW hn ⟨by decide, zd_typeW (x := zd_X x2) h (fun r hr => ?_) (fun hn' ok r hr => ?_)⟩))
  · have e : r = -2 := hr.resolve_right (fun t => t.2 (zd_X1 x2))
    subst e
    exact br_f (by decide) (zd_323 hn (fun _ _ => rfl) (fun t => absurd t (by decide)) (fun _ => rfl))
  · exact br_t hr (zd_backW (by omega) (zd_323 hn (zd_up a n _) (fun _ => pk_us) (fun t => absurd hr t)))
theorem zd_52 (h : zd_OK n a) : ∀ c i sd ss, i + c = 12 → wL_law_52 (fun r => r = 1) L xs x2 kc ks (c + 1) (nI i) (nI n) sd ss a
  | 0, i, sd, ss, hi => by
    have : i = 12 := by omega
    subst this
    exact zd_end h
  | c + 1, i, sd, ss, hi => zd_cell (by omega) (fun sd ss => zd_52 h c (i + 1) sd ss (by omega))
end
theorem zd_23 {L : Nat} {xs : Nat → Int32} {x2 : Int32} {kc ks : Nat} (hL : L ≤ 260) : ∀ c i n f1 f2 a, i ≤ 261 → L ≤ i + c + 1 → zd_OK n a → wL_law_23 (fun r => r = 1) L xs x2 kc ks (c + 1) (nI i) (nI n) f1 f2 a
  | 0, i, n, f1, f2, a, hi, hc, h => pk_le L (i + 1) (fun _ => ⟨13, zd_52 h 12 0 f1 f2 (by omega)⟩) (fun z => absurd z (by omega)) (hy := nI_1 i)
  | c + 1, i, n, f1, f2, a, hi, hc, h =>
    pk_le L (i + 1) (fun _ => ⟨13, zd_52 h 12 0 f1 f2 (by omega)⟩)
      (fun z => ⟨pk_in i L (by omega), pk_in (i + 1) L (by omega) (hx := nI_1 i), zd_turnW h (fun r n' a' ok => nm_r (nI_add i 2) (zd_23 hL c (i + 2) n' f1 f2 a' (by omega) (by omega) ok))⟩) (hy := nI_1 i)
theorem i_vc (xs : Nat → Int32) (L : Nat) (hL : L ≤ 260) : wpL_law (fun r => r = 1) L xs := by
  have H : ∀ x2 : Int32, ∃ fu, wL_law_23 (fun r => r = 1) L xs x2 (1 + 1) (4 + 9) fu 1 0 0 0 (fun _ => 0) := fun x2 =>
    ⟨L + 1, zd_23 hL L 1 0 0 0 (fun _ => 0) (by omega) (by omega) (zd_OK0 _)⟩
  refine ⟨1, 9, by decide, by decide, by decide, by decide, ?_⟩
  exact pk_le L 0 (fun _ => H 0) (fun z => ⟨pk_in 0 L (by omega), nm_e (H _)⟩)
end
