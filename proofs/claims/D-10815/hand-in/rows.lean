section
/-! pure rows: or of digits, images, digits in base 6 -/
theorem ck_or (a b : Nat) : nI a ||| nI b = nI (a ||| b) := by
  apply Int32.toBitVec_inj.1
  show BitVec.ofNat 32 a ||| BitVec.ofNat 32 b = BitVec.ofNat 32 (a ||| b)
  apply BitVec.eq_of_getLsbD_eq
  intro i hi
  simp [hi]
theorem ck_orA {a d k : Nat} (h : a < 2 ^ k) : nI a ||| nI (d * 2 ^ k) = nI (a + d * 2 ^ k) := by
  rw [ck_or, Nat.or_comm, Nat.mul_comm d, ← Nat.two_pow_add_eq_or_of_lt h, Nat.add_comm]
theorem ck_s3 : ∀ i, i < 6 → (((3 * nI i) &&& 31).toBitVec.smod 32).toNat = 3 * i := by decide +kernel
theorem ck_im {g i : Nat} (hg : g < 2 ^ 31) (hi : i < 6) : (nI g >>> ((3 * nI i) &&& 31)) &&& 7 = nI (g / 2 ^ (3 * i) % 8) := by
  rw [pk_shrN hg _ (3 * i) (ck_s3 i hi)]
  exact pk_andN (Nat.lt_of_le_of_lt (Nat.div_le_self _ _) (by omega)) 3 (by decide)
/-- digit i of k in base 6 -/
def ck_d (k i : Nat) : Nat := k / 6 ^ i % 6
/-- the first i digits of k, three bits each -/
def ck_A (k : Nat) : Nat → Nat
  | 0 => 0
  | i + 1 => ck_A k i + ck_d k i * 2 ^ (3 * i)
/-- the bits of the first i digits of k -/
def ck_Sn (k : Nat) : Nat → Int32
  | 0 => 0
  | i + 1 => ck_Sn k i ||| ((1 : Int32) <<< (nI (ck_d k i) &&& 31))
theorem ck_d_lt (k i : Nat) : ck_d k i < 6 := Nat.mod_lt _ (by decide)
theorem ck_A_lt (k i : Nat) : ck_A k i < 2 ^ (3 * i) := by
  induction i with
  | zero => exact Nat.one_pos
  | succ i ih =>
    show ck_A k i + ck_d k i * 2 ^ (3 * i) < 2 ^ (3 * (i + 1))
    have h := ck_d_lt k i
    have e : 2 ^ (3 * (i + 1)) = 2 ^ (3 * i) * 8 := by rw [Nat.mul_add, Nat.pow_add]
    have m : ck_d k i * 2 ^ (3 * i) ≤ 5 * 2 ^ (3 * i) := Nat.mul_le_mul_right _ (by omega)
    rw [e]
    omega
theorem ck_put {k i : Nat} (hi : i < 6) : nI (ck_A k i) ||| (nI (ck_d k i) <<< ((3 * nI i) &&& 31)) = nI (ck_A k (i + 1)) := by
  have h := ck_d_lt k i
  have m : ck_d k i * 2 ^ (3 * i) ≤ 5 * 2 ^ (3 * i) := Nat.mul_le_mul_right _ (by omega)
  have e : 2 ^ (3 * i) ≤ 2 ^ 15 := Nat.pow_le_pow_right (by decide) (by omega)
  rw [pk_shlN _ (3 * i) (ck_s3 i hi) (by omega), ck_orA (ck_A_lt k i)]
  rfl
theorem ck_dA (d0 d1 d2 d3 d4 d5 : Nat) (h0 : d0 < 6) (h1 : d1 < 6) (h2 : d2 < 6) (h3 : d3 < 6) (h4 : d4 < 6) (h5 : d5 < 6) :
    (d0 + d1 * 8 + d2 * 64 + d3 * 512 + d4 * 4096 + d5 * 32768) % 8 = d0 ∧ (d0 + d1 * 8 + d2 * 64 + d3 * 512 + d4 * 4096 + d5 * 32768) / 8 % 8 = d1 ∧ (d0 + d1 * 8 + d2 * 64 + d3 * 512 + d4 * 4096 + d5 * 32768) / 64 % 8 = d2 ∧ (d0 + d1 * 8 + d2 * 64 + d3 * 512 + d4 * 4096 + d5 * 32768) / 512 % 8 = d3 ∧ (d0 + d1 * 8 + d2 * 64 + d3 * 512 + d4 * 4096 + d5 * 32768) / 4096 % 8 = d4 ∧ (d0 + d1 * 8 + d2 * 64 + d3 * 512 + d4 * 4096 + d5 * 32768) / 32768 % 8 = d5 := by
  refine ⟨by omega, by omega, by omega, by omega, by omega, by omega⟩
theorem ck_A6 (k : Nat) : ck_A k 6 = ck_d k 0 + ck_d k 1 * 8 + ck_d k 2 * 64 + ck_d k 3 * 512 + ck_d k 4 * 4096 + ck_d k 5 * 32768 := by
  show 0 + ck_d k 0 * 1 + ck_d k 1 * 8 + ck_d k 2 * 64 + ck_d k 3 * 512 + ck_d k 4 * 4096 + ck_d k 5 * 32768 = _
  rw [Nat.zero_add, Nat.mul_one]
theorem ck_dg (k : Nat) : ∀ j, j < 6 → ck_A k 6 / 2 ^ (3 * j) % 8 = ck_d k j := by
  obtain ⟨e0, e1, e2, e3, e4, e5⟩ := ck_dA _ _ _ _ _ _ (ck_d_lt k 0) (ck_d_lt k 1) (ck_d_lt k 2) (ck_d_lt k 3) (ck_d_lt k 4) (ck_d_lt k 5)
  rw [← ck_A6] at e0 e1 e2 e3 e4 e5
  intro j hj
  rcases (by omega : j = 0 ∨ j = 1 ∨ j = 2 ∨ j = 3 ∨ j = 4 ∨ j = 5) with z | z | z | z | z | z <;> subst z
  · show ck_A k 6 / 1 % 8 = _
    rw [Nat.div_one]
    exact e0
  · exact e1
  · exact e2
  · exact e3
  · exact e4
  · exact e5
theorem ck_imA {k j : Nat} (hj : j < 6) : (nI (ck_A k 6) >>> ((3 * nI j) &&& 31)) &&& 7 = nI (ck_d k j) := by
  have h := ck_A_lt k 6
  rw [ck_im (by omega) hj, ck_dg k j hj]
theorem ck_next (k j : Nat) : k / 6 ^ (j + 1) * 6 + ck_d k j = k / 6 ^ j := by
  unfold ck_d
  rw [Nat.pow_succ, ← Nat.div_div_eq_div_mul]
  omega
theorem ck_rem {k i : Nat} (hk : k < 2 ^ 31) : nI (k / 6 ^ i) - nI (k / 6 ^ i) / 6 * 6 = nI (ck_d k i) :=
  pk_rem (d := 6) (Nat.lt_of_le_of_lt (Nat.div_le_self _ _) hk) (by decide) (by decide)
theorem ck_div {k i : Nat} (hk : k < 2 ^ 31) : nI (k / 6 ^ i) / 6 = nI (k / 6 ^ (i + 1)) := by
  rw [Nat.pow_succ, ← Nat.div_div_eq_div_mul]
  exact pk_div (d := 6) (Nat.lt_of_le_of_lt (Nat.div_le_self _ _) hk) (by decide) (by decide)
/-- k is the code of a rearrangement -/
def ck_code (k : Nat) : Prop := k < 46656 ∧ ck_Sn k 6 = 63
/-- the identity's code, digits and images -/
theorem ck_id_code : ck_code 44790 := ⟨by decide, by decide +kernel⟩
theorem ck_id_A : ck_A 44790 6 = 181896 := by decide +kernel
theorem ck_id_im : ∀ i, i < 6 → (nI 181896 >>> ((3 * nI i) &&& 31)) &&& 7 = nI i := by decide +kernel
theorem ck_fill {f s : Nat → Int32} {i k : Nat} {x : Int32} (hk : k = i) (h : ∀ j, j < i → s j = f j) (hx : x = f i) : ∀ j, j < i + 1 → upd s k x j = f j := by
  intro j hj
  rw [hk]
  by_cases e : j = i
  · rw [e, pk_us, hx]
  · rw [pk_un e]
    exact h j (by omega)
end
section
/-! generators: inside, add, outside, remove; codes; powers -/
section
variable {q0 cc li sz sh : Int32} {a1 a2 a3 a4 a5 a6 : Nat → Int32}
theorem ck_inside {post : Int32 → Prop} {k : Nat} (hk : k < 2 ^ 31) (h1 : ck_code k → post (nI (ck_A k 6))) (h0 : ¬ ck_code k → post (-1)) :
    wpX_inside post (q0, cc, li, sz, sh, a1, a2, a3, a4, a5, a6) (nI k) := by
  have key : ∃ n, wX_inside_10 post q0 cc li sz sh a1 a2 a3 a4 a5 a6 n (nI (ck_A k 0)) (ck_Sn k 0) (nI (k / 6 ^ 0)) (nI 0) := by
    refine pk_loop (σ := Unit) (fun n i _ => wX_inside_10 post q0 cc li sz sh a1 a2 a3 a4 a5 a6 n (nI (ck_A k i)) (ck_Sn k i) (nI (k / 6 ^ i)) (nI i)) (fun _ _ => True) 6 0 () (by omega) trivial ?_ ?_
    · intro n _ _
      refine pk_le 6 6 (fun _ => ?_) (fun z => absurd z (by omega))
      refine br_c (fun e => ?_) (fun e => h0 (fun t => e t.2))
      refine pk_eq (k / 6 ^ 6) 0 (fun z => h1 ⟨by omega, e⟩) (fun z => h0 (fun t => ?_)) rfl rfl (by omega)
      have t1 := t.1
      omega
    · intro n i _ hi _ hw
      refine pk_le 6 i (fun z => absurd z (by omega)) (fun _ => ⟨by decide, nm_r (ck_rem hk) ⟨by decide, nm_r (ck_div hk) (nm_e (nm_r (ck_put hi) (nm_r (nI_1 i) (hw () trivial))))⟩⟩)
  rw [show nI (k / 6 ^ 0) = nI k by rw [Nat.pow_zero, Nat.div_one]] at key
  exact key
theorem ck_add {post : Int32 → St2 → Prop} {q k : Nat} (hk : k < 2 ^ 31) (hq : q < 3)
    (h1 : ck_code k → post (nI (q + 1)) (nI (q + 1), cc, 0, sz, sh, upd a1 q (nI (ck_A k 6)), a2, a3, a4, a5, a6))
    (h0 : ¬ ck_code k → post (-1) (nI q, cc, li, sz, sh, a1, a2, a3, a4, a5, a6)) :
    wpX_add post (nI q, cc, li, sz, sh, a1, a2, a3, a4, a5, a6) (nI k) := by
  have hA := ck_A_lt k 6
  refine br_t (nI_pos' hk) (ck_inside hk (fun c => ?_) (fun c => ?_))
  · refine br_t (nI_pos' (by omega)) (pk_eq q 3 (fun z => absurd z (by omega)) (fun _ => ⟨pk_in q 3 hq, nm_r (by rw [nI_clamp (by omega)]) (nm_r (nI_1 q) (h1 c))⟩))
  · exact br_f (by decide) (h0 c)
theorem ck_addN {post : Int32 → St2 → Prop} {x : Int32} (hx : ¬ 0 ≤ x) (h0 : post (-1) (q0, cc, li, sz, sh, a1, a2, a3, a4, a5, a6)) :
    wpX_add post (q0, cc, li, sz, sh, a1, a2, a3, a4, a5, a6) x :=
  br_f hx (br_f (by decide) h0)
theorem ck_outside {post : Int32 → Prop} {k : Nat} (hk : k < 46656) (h : post (nI k)) :
    wpX_outside post (q0, cc, li, sz, sh, a1, a2, a3, a4, a5, a6) (nI (ck_A k 6)) := by
  have key := pk_loopD (σ := Unit) (fun n j _ => wX_outside_4 post (nI (ck_A k 6)) q0 cc li sz sh a1 a2 a3 a4 a5 a6 n (nI (k / 6 ^ j)) (nI j + (-1))) (fun j _ => j ≤ 6)
    (by
      intro n _ _
      refine br_t (by decide) ?_
      rw [Nat.pow_zero, Nat.div_one]
      exact h)
    (by
      intro n j _ hj hw
      show wX_outside_4 post (nI (ck_A k 6)) q0 cc li sz sh a1 a2 a3 a4 a5 a6 (n + 1) (nI (k / 6 ^ (j + 1))) (nI (j + 1) + (-1))
      rw [pk_m1]
      refine br_f (nI_pos (by omega)) ?_
      show ∀ x2_3 : Int32, x2_3 = (nI (k / 6 ^ (j + 1)) * 6) + ((nI (ck_A k 6) >>> ((3 * nI j) &&& 31)) &&& 7) → _
      refine nm_r (e' := nI (k / 6 ^ j)) ?_ (nm_e (hw () (by omega)))
      rw [ck_imA (by omega), ← ck_next k j]
      show nI (k / 6 ^ (j + 1)) * nI 6 + nI (ck_d k j) = _
      rw [pk_mul, nI_add])
    6 () (by omega)
  have e : k / 6 ^ 6 = 0 := by omega
  have e5 : nI 6 + (-1) = 5 := by decide
  have key' : wX_outside_4 post (nI (ck_A k 6)) q0 cc li sz sh a1 a2 a3 a4 a5 a6 7 (nI (k / 6 ^ 6)) (nI 6 + (-1)) := key
  rw [e, e5] at key'
  exact ⟨7, key'⟩
theorem ck_remove {post : Int32 → St2 → Prop} {q k : Nat} (hq : q < 3) (hk : k < 46656) (ha : a1 q = nI (ck_A k 6))
    (h : post (nI k) (nI q, cc, 0, sz, sh, a1, a2, a3, a4, a5, a6)) :
    wpX_remove post (nI (q + 1), cc, li, sz, sh, a1, a2, a3, a4, a5, a6) := by
  refine br_f (nI_ne0 (by omega) (by omega)) (nm_r (nI_pred q) ⟨pk_in q 3 hq, ?_⟩)
  rw [nI_clamp (by omega), ha]
  exact ck_outside hk h
theorem ck_power {post : Int32 → Prop} {c n : Nat} (hn : n < 2 ^ 31) (h : post (nI (c ^ n))) :
    wpX_power post (q0, cc, li, sz, sh, a1, a2, a3, a4, a5, a6) (nI c) (nI n) := by
  have key : ∃ f, wX_power_5 post (nI c) (nI n) q0 cc li sz sh a1 a2 a3 a4 a5 a6 f (nI (c ^ 0)) (nI 0) := by
    refine pk_loop (σ := Unit) (fun f i _ => wX_power_5 post (nI c) (nI n) q0 cc li sz sh a1 a2 a3 a4 a5 a6 f (nI (c ^ i)) (nI i)) (fun _ _ => True) n 0 () (by omega) trivial ?_ ?_
    · intro f _ _
      exact pk_le n n (fun _ => h) (fun z => absurd z (by omega))
    · intro f i _ hi _ hw
      exact pk_le n i (fun z => absurd z (by omega)) (fun _ => nm_r (e' := nI (c ^ (i + 1))) (by rw [pk_mul, Nat.pow_succ]) (nm_r (nI_1 i) (hw () trivial)))
  exact key
theorem ck_bad {post : Int32 → Prop} {c : Nat} {x : Int32} (hc : c ≤ 3) (h0 : ¬ x < 0 → x < nI (c ^ 6) → post 0) (h1 : x < 0 ∨ ¬ x < nI (c ^ 6) → post 1) :
    wpX_bad post (q0, nI c, li, sz, sh, a1, a2, a3, a4, a5, a6) x :=
  br_c (fun z => h1 (Or.inl z)) (fun z => ck_power (n := 6) (by decide) (br_c (fun y => h0 z y) (fun y => h1 (Or.inr y))))
theorem ck_isCode9 {post : Int32 → Prop} {k : Nat} (hk : k < 2 ^ 31) (h1 : ck_code k → post 1) (h0 : ¬ ck_code k → post 0) : wpL_isCode post () (nI k) := by
  have D : ∀ i m, m = 6 ^ i → m < 2 ^ 31 → (nI k / nI m) = nI (k / 6 ^ i) := fun i m e hm => by
    rw [pk_div hk (by rw [e]; exact Nat.pow_pos (by decide)) hm, e]
  have R0 := ck_rem (i := 0) hk
  rw [show k / 6 ^ 0 = k by rw [Nat.pow_zero, Nat.div_one]] at R0
  have D1 : nI k / 6 = nI (k / 6 ^ 1) := D 1 6 (by decide) (by decide)
  have D2 : nI k / 36 = nI (k / 6 ^ 2) := D 2 36 (by decide) (by decide)
  have D3 : nI k / 216 = nI (k / 6 ^ 3) := D 3 216 (by decide) (by decide)
  have D4 : nI k / 1296 = nI (k / 6 ^ 4) := D 4 1296 (by decide) (by decide)
  have D5 : nI k / 7776 = nI (k / 6 ^ 5) := D 5 7776 (by decide) (by decide)
  have S : ck_Sn k 6 = (((((((1 : Int32) <<< (nI (ck_d k 0) &&& 31)) ||| ((1 : Int32) <<< (nI (ck_d k 1) &&& 31))) ||| ((1 : Int32) <<< (nI (ck_d k 2) &&& 31))) ||| ((1 : Int32) <<< (nI (ck_d k 3) &&& 31))) ||| ((1 : Int32) <<< (nI (ck_d k 4) &&& 31))) ||| ((1 : Int32) <<< (nI (ck_d k 5) &&& 31))) := by
    simp only [ck_Sn, Int32.zero_or]
  refine br_t (nI_pos' hk) ?_
  unfold wL_isCode_9
  rw [D1, D2, D3, D4, D5]
  refine ⟨by decide, nm_r (e' := nI (ck_d k 0)) (by rw [← D1]; exact R0) ⟨by decide, by decide, nm_r (ck_rem hk) ⟨by decide, by decide, nm_r (ck_rem hk) ⟨by decide, by decide, nm_r (ck_rem hk) ⟨by decide, by decide, nm_r (ck_rem hk) ⟨by decide, by decide, nm_r (ck_rem hk) ?_⟩⟩⟩⟩⟩⟩
  refine br_f (nI_pos hk) (pk_le 46656 k (fun z => h0 (fun t => absurd t.1 (by omega))) (fun z => ?_))
  rw [← S]
  exact br_c (fun e => h1 ⟨z, e⟩) (fun e => h0 (fun t => e t.2))
end
end
section
/-! the group: the identity alone -/
section
variable {q0 cc li sz sh : Int32} {a1 a2 a3 a4 a5 a6 : Nat → Int32}
theorem ck_hash : (((181896 : Int32) ^^^ ((181896 : Int32) >>> ((7 : Int32) &&& 31))) * 37) &&& 2047 = nI 1977 := by decide +kernel
/-- the identity is entered into an empty table -/
theorem ck_en1 {post : St2 → Prop} (h : a3 1977 = -1) (H : post (q0, cc, li, 1, sh, a1, upd a2 0 181896, upd a3 1977 0, a4, a5, a6)) :
    wpX_enter post (q0, cc, li, 0, sh, a1, a2, a3, a4, a5, a6) 181896 := by
  refine nm_r ck_hash ⟨1, br_f (by decide) ⟨pk_in 1977 2048 (by decide), ?_⟩⟩
  unfold wX_enter_62
  rw [nI_clamp (show 1977 < 2 ^ 31 by decide), sb_cl0]
  exact br_t (by rw [h]; decide) ⟨pk_in 1977 2048 (by decide), nm_e ⟨pk_in 0 720 (by decide), nm_e (nm_r (e' := 1) (by decide) H)⟩⟩
/-- the identity is entered once more -/
theorem ck_en2 {post : St2 → Prop} (h : a3 1977 = 0) (h2 : a2 0 = 181896) (H : post (q0, cc, li, sz, sh, a1, a2, a3, a4, a5, a6)) :
    wpX_enter post (q0, cc, li, sz, sh, a1, a2, a3, a4, a5, a6) 181896 := by
  refine nm_r ck_hash ⟨1, br_f (by decide) ⟨pk_in 1977 2048 (by decide), ?_⟩⟩
  rw [nI_clamp (show 1977 < 2 ^ 31 by decide), h, sb_cl0]
  exact br_f (by decide) ⟨pk_in 1977 2048 (by decide), pk_in 0 720 (by decide), br_t h2 H⟩
theorem ck_both_s : ∀ i, i < 6 → nI (181896 % 8 ^ i) ||| (nI i <<< ((3 * nI i) &&& 31)) = nI (181896 % 8 ^ (i + 1)) := by decide +kernel
theorem ck_both {post : Int32 → Prop} (h : post 181896) : wpX_both post (q0, cc, li, sz, sh, a1, a2, a3, a4, a5, a6) 181896 181896 := by
  have key : ∃ n, wX_both_5 post (nI 181896) (nI 181896) q0 cc li sz sh a1 a2 a3 a4 a5 a6 n (nI (181896 % 8 ^ 0)) (nI 0) := by
    refine pk_loop (σ := Unit) (fun n i _ => wX_both_5 post (nI 181896) (nI 181896) q0 cc li sz sh a1 a2 a3 a4 a5 a6 n (nI (181896 % 8 ^ i)) (nI i)) (fun _ _ => True) 6 0 () (by omega) trivial ?_ ?_
    · intro n _ _
      exact pk_le 6 6 (fun _ => h) (fun z => absurd z (by omega))
    · intro n i _ hi _ hw
      refine pk_le 6 i (fun z => absurd z (by omega)) (fun _ => ?_)
      unfold wpX_image
      dsimp only
      rw [ck_id_im i hi, ck_id_im i hi]
      exact nm_r (ck_both_s i hi) (nm_r (nI_1 i) (hw () trivial))
  exact key
theorem ck_sh0 : ∀ i, i < 6 → (nI (2 ^ i - 1) >>> (nI i &&& 31)) &&& 1 = 0 := by decide +kernel
theorem ck_sh1 : ∀ i, i < 6 → ¬ (nI (2 ^ (i + 1) - 1) >>> (nI i &&& 31)) &&& 1 = 0 := by decide +kernel
theorem ck_sh2 : ∀ i, i < 6 → nI (2 ^ i - 1) ||| ((1 : Int32) <<< (nI i &&& 31)) = nI (2 ^ (i + 1) - 1) := by decide +kernel
theorem ck_sh3 : ∀ i, i < 6 → nI i + ((1 : Int32) <<< (((4 * nI 1) - 4) &&& 31)) = nI (i + 1) := by decide +kernel
theorem ck_shape {post : Int32 → Prop} (h : post 6) : wpX_shapeOf post (q0, cc, li, sz, sh, a1, a2, a3, a4, a5, a6) 181896 := by
  have key : ∃ n, wX_shapeOf_7 post (nI 181896) q0 cc li sz sh a1 a2 a3 a4 a5 a6 n (nI (2 ^ 0 - 1)) (nI 0) (nI 0) := by
    refine pk_loop (σ := Unit) (fun n i _ => wX_shapeOf_7 post (nI 181896) q0 cc li sz sh a1 a2 a3 a4 a5 a6 n (nI (2 ^ i - 1)) (nI i) (nI i)) (fun _ _ => True) 6 0 () (by omega) trivial ?_ ?_
    · intro n _ _
      exact pk_le 6 6 (fun _ => h) (fun z => absurd z (by omega))
    · intro n i _ hi _ hw
      refine pk_le 6 i (fun z => absurd z (by omega)) (fun _ => ⟨2, br_f (by decide) (br_t (ck_sh0 i hi) (nm_r (ck_sh2 i hi) ?_))⟩)
      unfold wpX_image
      dsimp only
      rw [ck_id_im i hi]
      refine nm_r (e' := nI 1) (by decide) (nm_r (e' := nI 1) (by decide) (br_f (by decide) (br_f (ck_sh1 i hi) (br_f (by decide) (nm_r (ck_sh3 i hi) (nm_r (nI_1 i) (hw () trivial)))))))
  exact key
theorem ck_cshape {post : St2 → Prop} (H : post (q0, cc, li, sz, 1, a1, a2, a3, upd a4 0 6, upd a5 0 1, a6)) :
    wpX_countShape post (q0, cc, li, sz, 0, a1, a2, a3, a4, a5, a6) 6 :=
  ⟨1, br_t (by decide) ⟨pk_in 0 12 (by decide), nm_r (by rw [sb_cl0]) ⟨pk_in 0 12 (by decide), nm_r (by rw [sb_cl0]) (nm_r (e' := 1) (by decide) H)⟩⟩⟩
theorem ck_109 {post : St2 → Prop} (h2 : a2 0 = 181896) (H : ∀ b4 b5, b4 0 = 6 → b5 0 = 1 → post (q0, cc, 1, 1, 1, a1, a2, a3, b4, b5, a6)) :
    ∃ n, wX_listGroup_109 post n 0 q0 cc li 1 0 a1 a2 a3 a4 a5 a6 := by
  refine ⟨2, br_f (by decide) ⟨pk_in 0 720 (by decide), ?_⟩⟩
  rw [sb_cl0, h2]
  exact ck_shape (ck_cshape (nm_r (e' := 1) (by decide) (br_t (by decide) (H _ _ pk_us pk_us))))
theorem ck_43 {post : St2 → Prop} {q : Nat} (hq : q ≤ 1) (h1 : a1 0 = 181896) (h2 : a2 0 = 181896) (h3 : a3 1977 = 0) (H : ∀ b4 b5, b4 0 = 6 → b5 0 = 1 → post (nI q, cc, 1, 1, 1, a1, a2, a3, b4, b5, a6)) :
    ∃ n, wX_listGroup_43 post n 0 (nI q) cc li 1 sh a1 a2 a3 a4 a5 a6 := by
  refine ⟨2, br_f (by decide) (br_f (by decide) ⟨2, ?_⟩)⟩
  rcases (by omega : q = 0 ∨ q = 1) with z | z
  · subst z
    exact br_t (by decide) (nm_r (e' := 1) (by decide) (br_t (by decide) (ck_109 h2 H)))
  · subst z
    refine br_f (by decide) ⟨pk_in 0 720 (by decide), pk_in 0 3 (by decide), ?_⟩
    rw [sb_cl0, h1, h2]
    exact ck_both (ck_en2 h3 h2 (nm_r (e' := 1) (by decide) (br_t (by decide) (nm_r (e' := 1) (by decide) (br_t (by decide) (ck_109 h2 H))))))
theorem ck_list {post : St2 → Prop} {q : Nat} (hq : q ≤ 1) (h1 : a1 0 = 181896) (H : ∀ b2 b3 b4 b5, b2 0 = 181896 → b4 0 = 6 → b5 0 = 1 → post (nI q, cc, 1, 1, 1, a1, b2, b3, b4, b5, a6)) :
    wpX_listGroup post (nI q, cc, 0, sz, sh, a1, a2, a3, a4, a5, a6) := by
  refine br_t rfl ?_
  refine pk_loop (fun n i s => wX_listGroup_10 post (nI q) cc 0 sz sh n (nI i) a1 a2 s a4 a5 a6) (fun i s => ∀ p, p < i → s p = -1) 2048 0 a3 (by omega) (fun p hp => absurd hp (by omega)) ?_ ?_
  · intro n s h
    refine pk_le 2048 2048 (fun _ => ?_) (fun z => absurd z (by omega))
    exact ck_en1 (h 1977 (by omega)) (ck_43 hq h1 pk_us pk_us (fun b4 b5 e4 e5 => H _ _ b4 b5 pk_us e4 e5))
  · intro n i s hi h hw
    exact pk_le 2048 i (fun z => absurd z (by omega)) (fun _ => ⟨pk_in i 2048 hi, nm_e (nm_r (nI_1 i) (hw _ (ck_fill (f := fun _ => -1) (nI_clamp (by omega)) h rfl)))⟩)
theorem ck_listed {post : St2 → Prop} (H : post (q0, cc, 1, sz, sh, a1, a2, a3, a4, a5, a6)) : wpX_listGroup post (q0, cc, 1, sz, sh, a1, a2, a3, a4, a5, a6) :=
  br_f (by decide) H
end
end
section
/-! names: the identity carries a colouring to itself -/
section
variable {q0 cc li sz sh : Int32} {a1 a2 a3 a4 a5 a6 : Nat → Int32}
theorem ck_carried {post : Int32 → Prop} {c k : Nat} (hc0 : 0 < c) (hc : c ≤ 3) (hk : k < c ^ 6) (hk2 : k < 2 ^ 31) (h : post (nI k)) :
    wpX_carried post (q0, nI c, li, sz, sh, a1, a2, a3, a4, a5, a6) (nI k) 181896 := by
  have hcz : ¬ nI c = 0 := nI_ne0 hc0 (by omega)
  have key : ∃ n, wX_carried_8 post (nI 181896) q0 (nI c) li sz sh a1 a2 a3 a4 a5 a6 n (nI (k / c ^ 0)) (nI (k % c ^ 0)) (nI 0) := by
    refine pk_loop (σ := Unit) (fun n i _ => wX_carried_8 post (nI 181896) q0 (nI c) li sz sh a1 a2 a3 a4 a5 a6 n (nI (k / c ^ i)) (nI (k % c ^ i)) (nI i)) (fun _ _ => True) 6 0 () (by omega) trivial ?_ ?_
    · intro n _ _
      refine pk_le 6 6 (fun _ => ?_) (fun z => absurd z (by omega))
      rw [Nat.mod_eq_of_lt hk]
      exact h
    · intro n i _ hi _ hw
      refine pk_le 6 i (fun z => absurd z (by omega)) (fun _ => ?_)
      unfold wpX_image
      dsimp only
      rw [ck_id_im i hi]
      have hb : k / c ^ i < 2 ^ 31 := Nat.lt_of_le_of_lt (Nat.div_le_self _ _) hk2
      refine ⟨hcz, ck_power (by omega) (nm_r (e' := nI (k % c ^ (i + 1))) ?_ ⟨hcz, nm_r (e' := nI (k / c ^ (i + 1))) ?_ (nm_r (nI_1 i) (hw () trivial))⟩)⟩
      · rw [pk_rem hb hc0 (by omega), pk_mul, nI_add, Nat.pow_succ, Nat.mod_mul, Nat.mul_comm (c ^ i)]
      · rw [pk_div hb hc0 (by omega), Nat.pow_succ, Nat.div_div_eq_div_mul]
  rw [Nat.pow_zero, Nat.div_one, Nat.mod_one] at key
  exact key
theorem ck_least {post : Int32 → Prop} {c k : Nat} (hc0 : 0 < c) (hc : c ≤ 3) (hk : k < c ^ 6) (hk2 : k < 2 ^ 31) (h2 : a2 0 = 181896) (h : post (nI k)) :
    wpX_leastOf post (q0, nI c, li, 1, sh, a1, a2, a3, a4, a5, a6) (nI k) := by
  refine ⟨2, br_f (by decide) ⟨pk_in 0 720 (by decide), ?_⟩⟩
  rw [sb_cl0, h2]
  exact ck_carried hc0 hc hk hk2 (pk_le k k (fun _ => nm_r (e' := 1) (by decide) (br_t (by decide) h)) (fun z => absurd z (by omega)))
/-- the state behind remove: not listed yet, or listed -/
def ck_U (q c : Nat) (u : St2) : Prop := match u with
  | (f1, f2, f3, f4, f5, b1, b2, _, b4, b5, _) => f1 = nI q ∧ f2 = nI c ∧ b1 0 = 181896 ∧ (f3 = 0 ∨ (f3 = 1 ∧ f4 = 1 ∧ f5 = 1 ∧ b2 0 = 181896 ∧ b4 0 = 6 ∧ b5 0 = 1))
/-- listGroup, from either -/
theorem ck_lg {post : St2 → Prop} {q c : Nat} (hq : q ≤ 1) (hU : ck_U q c (q0, cc, li, sz, sh, a1, a2, a3, a4, a5, a6))
    (H : ∀ b2 b3 b4 b5, a1 0 = 181896 → b2 0 = 181896 → b4 0 = 6 → b5 0 = 1 → post (nI q, nI c, 1, 1, 1, a1, b2, b3, b4, b5, a6)) :
    wpX_listGroup post (q0, cc, li, sz, sh, a1, a2, a3, a4, a5, a6) := by
  obtain ⟨e1, e2, e3, e4⟩ := hU
  rcases e4 with e4 | ⟨e4, e5, e6, e7, e8, e9⟩
  · rw [e1, e2, e4]
    exact ck_list hq e3 (fun b2 b3 b4 b5 => H b2 b3 b4 b5 e3)
  · rw [e1, e2, e4, e5, e6]
    exact ck_listed (H a2 a3 a4 a5 e3 e7 e8 e9)
theorem ck_name {post : Int32 → St2 → Prop} {q c : Nat} {x : Int32} (hq : q ≤ 1) (hc0 : 0 < c) (hc : c ≤ 3) (hU : ck_U q c (q0, cc, li, sz, sh, a1, a2, a3, a4, a5, a6))
    (H : ∀ r f1 f2 f3 f4 f5 b1 b2 b3 b4 b5 b6, ck_U q c (f1, f2, f3, f4, f5, b1, b2, b3, b4, b5, b6) → (x < 0 ∨ nI (c ^ 6) ≤ x → r = -4) → (¬ x < 0 → ¬ nI (c ^ 6) ≤ x → r = x) → post r (f1, f2, f3, f4, f5, b1, b2, b3, b4, b5, b6)) :
    wpX_name post (q0, cc, li, sz, sh, a1, a2, a3, a4, a5, a6) x := by
  have e2 : cc = nI c := hU.2.1
  subst e2
  unfold wpX_name
  refine ck_bad hc (fun h0 h1 => br_t (show (0 : Int32) = 0 from rfl) ?_) (fun h => br_f (show ¬ (1 : Int32) = 0 by decide) (H (-4) _ _ _ _ _ _ _ _ _ _ _ hU (fun _ => rfl) (fun y w => h.elim (fun t => absurd t y) (fun t => absurd (Int32.not_le.mp w) t))))
  refine ck_lg hq hU (fun b2 b3 b4 b5 g1 g2 g4 g5 => ?_)
  obtain ⟨k, hk, rfl⟩ := nI_of h0
  have hp : c ^ 6 ≤ 3 ^ 6 := Nat.pow_le_pow_left hc 6
  have hk6 : k < c ^ 6 := (nI_ltI hk (by omega)).mp h1
  exact ck_least hc0 hc hk6 hk g2 (H _ _ _ _ _ _ _ _ _ _ _ _ ⟨rfl, rfl, g1, Or.inr ⟨rfl, rfl, rfl, g2, g4, g5⟩⟩ (fun t => t.elim (fun w => absurd w h0) (fun w => absurd h1 (Int32.not_lt.mpr w))) (fun _ _ => rfl))
end
end
section
/-! the table of ways: one cycle of length 1 taken, six of them, kindsWith -/
def ck_g1 (c : Nat) (f : Nat → Int32) (p : Nat) : Int32 := if c = 3 then f p else 0
def ck_g2 (c : Nat) (f : Nat → Int32) (p : Nat) : Int32 := if 7 ≤ p then ck_g1 c f p + f (p - 7) else ck_g1 c f p
/-- what takeCycle(1) makes of the table f, at place p -/
def ck_G (c : Nat) (f : Nat → Int32) (p : Nat) : Int32 := if 1 < c ∧ 0 < p % 7 then ck_g2 c f p + f (p - 1) else ck_g2 c f p
/-- the table behind k cycles of length 1 -/
def ck_W (c : Nat) : Nat → Nat → Int32
  | 0 => fun p => if p = 0 then 1 else 0
  | k + 1 => ck_G c (ck_W c k)
/-- places from t on are new, those ahead of it old -/
def ck_I (c : Nat) (f : Nat → Int32) (t : Nat) (s : Nat → Int32) : Prop := ∀ p, p < 49 → (p < t → s p = f p) ∧ (t ≤ p → s p = ck_G c f p)
section
variable {q0 cc li sz sh : Int32} {a1 a2 a3 a4 a5 a6 : Nat → Int32} {c : Nat} {f s : Nat → Int32} {m j : Nat} {postS : St2 → Prop}
variable {J3 J10 : Int32 → (Nat → Int32) → (Nat → Int32) → (Nat → Int32) → (Nat → Int32) → (Nat → Int32) → (Nat → Int32) → Prop}
theorem ck_ix (m j : Nat) : (7 * nI m) + nI j = nI (7 * m + j) := by
  show nI 7 * nI m + nI j = _
  rw [pk_mul, nI_add]
theorem ck_93 {x4 : Int32} (hm : m < 7) (hj : j < 7) (hI : ck_I c f (7 * m + j + 1) s) (hx : x4 = ck_G c f (7 * m + j))
    (H : ∀ s', ck_I c f (7 * m + j) s' → J10 (nI j + (-1)) a1 a2 a3 a4 a5 s') :
    wX_takeCycle_93 postS J3 J10 1 (nI m) (nI j) x4 q0 (nI c) li sz sh a1 a2 a3 a4 a5 s := by
  unfold wX_takeCycle_93
  rw [ck_ix, nI_clamp (by omega)]
  refine ⟨pk_in (7 * m + j) 49 (by omega), nm_e (nm_e (H _ ?_))⟩
  intro p hp
  by_cases z : p = 7 * m + j
  · rw [z, pk_us]
    exact ⟨fun z => absurd z (by omega), fun _ => hx⟩
  · rw [pk_un z]
    exact ⟨fun y => (hI p hp).1 (by omega), fun y => (hI p hp).2 (by omega)⟩
theorem ck_62 {x4 : Int32} (hc : c ≤ 3) (hm : m < 7) (hj : j < 7) (hI : ck_I c f (7 * m + j + 1) s) (hx : x4 = ck_g2 c f (7 * m + j))
    (H : ∀ s', ck_I c f (7 * m + j) s' → J10 (nI j + (-1)) a1 a2 a3 a4 a5 s') :
    wX_takeCycle_62 postS J3 J10 1 (nI m) (nI j) x4 q0 (nI c) li sz sh a1 a2 a3 a4 a5 s := by
  refine pk_le c 1 (fun z => ck_93 hm hj hI ?_ H) (fun z => pk_lt j 1 (fun y => ck_93 hm hj hI ?_ H) (fun y => ?_))
  · rw [hx]
    exact (if_neg (by omega)).symm
  · rw [hx]
    exact (if_neg (by omega)).symm
  · rw [ck_ix, show nI (7 * m + j) - 1 = nI (7 * m + j - 1) from pk_sub (b := 1) (by omega), nI_clamp (by omega)]
    refine ⟨pk_in (7 * m + j - 1) 49 (by omega), nm_e (ck_93 hm hj hI ?_ H)⟩
    rw [hx, (hI (7 * m + j - 1) (by omega)).1 (by omega)]
    exact (if_pos (by omega)).symm
theorem ck_37 {z0 : Int32} (hc : c ≤ 3) (hm : m < 7) (hj : j < 7) (hI : ck_I c f (7 * m + j + 1) s) (hx : z0 = ck_g1 c f (7 * m + j))
    (H : ∀ s', ck_I c f (7 * m + j) s' → J10 (nI j + (-1)) a1 a2 a3 a4 a5 s') :
    wX_takeCycle_37 postS J3 J10 1 (nI m) (nI j) z0 q0 (nI c) li sz sh a1 a2 a3 a4 a5 s := by
  refine pk_lt m 1 (fun z => ck_62 hc hm hj hI ?_ H) (fun z => ?_)
  · rw [hx]
    exact (if_neg (by omega)).symm
  · rw [show nI m - 1 = nI (m - 1) from pk_sub (b := 1) (by omega), ck_ix, nI_clamp (by omega)]
    refine ⟨pk_in (7 * (m - 1) + j) 49 (by omega), nm_e (ck_62 hc hm hj hI ?_ H)⟩
    rw [hx, (hI (7 * (m - 1) + j) (by omega)).1 (by omega), show 7 * (m - 1) + j = 7 * m + j - 7 by omega]
    exact (if_pos (by omega)).symm
theorem ck_tc10 (hc : c ≤ 3) (hm : m < 7) (hI : ck_I c f (7 * m + 7) s) (H : ∀ s', ck_I c f (7 * m) s' → J3 (nI m + (-1)) a1 a2 a3 a4 a5 s') :
    ∃ n, wX_takeCycle_10 postS J3 1 (nI m) q0 (nI c) li sz sh n 6 a1 a2 a3 a4 a5 s := by
  have key := pk_loopD (fun n j s => wX_takeCycle_10 postS J3 1 (nI m) q0 (nI c) li sz sh n (nI j + (-1)) a1 a2 a3 a4 a5 s) (fun j s => j ≤ 7 ∧ ck_I c f (7 * m + j) s)
    (by
      intro n s h
      exact br_t (by decide) (nm_e (H s h.2)))
    (by
      intro n j s h hw
      obtain ⟨hj, h⟩ := h
      show wX_takeCycle_10 postS J3 1 (nI m) q0 (nI c) li sz sh (n + 1) (nI (j + 1) + (-1)) a1 a2 a3 a4 a5 s
      rw [pk_m1]
      refine br_f (nI_pos (by omega)) (pk_eq c 3 (fun z => ?_) (fun z => ?_))
      · rw [ck_ix, nI_clamp (by omega)]
        refine ⟨pk_in (7 * m + j) 49 (by omega), ck_37 hc hm (by omega) h ?_ (fun s' h' => hw s' ⟨by omega, h'⟩)⟩
        rw [(h (7 * m + j) (by omega)).1 (by omega)]
        exact (if_pos z).symm
      · exact ck_37 hc hm (by omega) h (if_neg z).symm (fun s' h' => hw s' ⟨by omega, h'⟩))
    7 s ⟨by omega, hI⟩
  have key' : wX_takeCycle_10 postS J3 1 (nI m) q0 (nI c) li sz sh 8 (nI 7 + (-1)) a1 a2 a3 a4 a5 s := key
  rw [show nI 7 + (-1) = 6 by decide] at key'
  exact ⟨8, key'⟩
theorem ck_tc (hc : c ≤ 3) (h : ∀ p, p < 49 → s p = f p) (H : ∀ b6, (∀ p, p < 49 → b6 p = ck_G c f p) → postS (q0, nI c, li, sz, sh, a1, a2, a3, a4, a5, b6)) :
    wpX_takeCycle postS (q0, nI c, li, sz, sh, a1, a2, a3, a4, a5, s) 1 := by
  have key := pk_loopD (fun n m s => wX_takeCycle_3 postS 1 q0 (nI c) li sz sh n (nI m + (-1)) a1 a2 a3 a4 a5 s) (fun m s => m ≤ 7 ∧ ck_I c f (7 * m) s)
    (by
      intro n s h
      exact br_t (by decide) (H s (fun p hp => (h.2 p hp).2 (by omega))))
    (by
      intro n m s h hw
      obtain ⟨hm, h⟩ := h
      show wX_takeCycle_3 postS 1 q0 (nI c) li sz sh (n + 1) (nI (m + 1) + (-1)) a1 a2 a3 a4 a5 s
      rw [pk_m1]
      exact br_f (nI_pos (by omega)) (ck_tc10 hc (by omega) h (fun s' h' => hw s' ⟨by omega, h'⟩)))
    7 s ⟨by omega, fun p hp => ⟨fun _ => h p hp, fun z => absurd z (by omega)⟩⟩
  have key' : wX_takeCycle_3 postS 1 q0 (nI c) li sz sh 8 (nI 7 + (-1)) a1 a2 a3 a4 a5 s := key
  rw [show nI 7 + (-1) = 6 by decide] at key'
  exact ⟨8, key'⟩
theorem ck_cy1 : ((6 : Int32) >>> (((4 * nI 1) - 4) &&& 31)) &&& 15 = nI 6 := by decide +kernel
theorem ck_cy2 : ∀ i, i < 7 → 2 ≤ i → ((6 : Int32) >>> (((4 * nI i) - 4) &&& 31)) &&& 15 = nI 0 := by decide +kernel
theorem ck_55 {post : Int32 → St2 → Prop} {J36 : Int32 → Int32 → Int32 → Int32 → Int32 → Int32 → (Nat → Int32) → (Nat → Int32) → (Nat → Int32) → (Nat → Int32) → (Nat → Int32) → (Nat → Int32) → Prop} {x1 x2 x3 : Int32} (hc : c ≤ 3)
    (h : ∀ p, p < 49 → s p = ck_W c 0 p) (H : ∀ b6, (∀ p, p < 49 → b6 p = ck_W c 6 p) → J36 (nI 2) q0 (nI c) li sz sh a1 a2 a3 a4 a5 b6) :
    ∃ g, wX_leftWith_55 post J36 x1 x2 x3 (nI 1) (nI 6) g 0 q0 (nI c) li sz sh a1 a2 a3 a4 a5 s := by
  refine pk_loop (fun g t s => wX_leftWith_55 post J36 x1 x2 x3 (nI 1) (nI 6) g (nI t) q0 (nI c) li sz sh a1 a2 a3 a4 a5 s) (fun t s => ∀ p, p < 49 → s p = ck_W c t p) 6 0 s (by omega) h ?_ ?_
  · intro g s h
    exact pk_le 6 6 (fun _ => nm_r (nI_1 1) (H s h)) (fun z => absurd z (by omega))
  · intro g t s ht h hw
    exact pk_le 6 t (fun z => absurd z (by omega)) (fun _ => ck_tc hc h (fun b6 hb => nm_r (nI_1 t) (hw b6 hb)))
theorem ck_left {post : Int32 → St2 → Prop} {n : Nat} (hc : c ≤ 3) (hm : m < 7) (hn : n < 7) (H : ∀ b6, post (ck_W c 6 (7 * m + n)) (q0, nI c, li, sz, sh, a1, a2, a3, a4, a5, b6)) :
    wpX_leftWith post (q0, nI c, li, sz, sh, a1, a2, a3, a4, a5, a6) 6 (nI m) (nI n) := by
  have L36 : ∀ b6, (∀ p, p < 49 → b6 p = ck_W c 0 p) → wX_leftWith_36 post 6 (nI m) (nI n) 7 (nI 1) q0 (nI c) li sz sh a1 a2 a3 a4 a5 b6 := by
    intro b6 hb
    refine loop_i (fun k i s => wX_leftWith_36 post 6 (nI m) (nI n) k (nI i) q0 (nI c) li sz sh a1 a2 a3 a4 a5 s) (fun i s => 1 ≤ i ∧ ∀ p, p < 49 → s p = ck_W c (if i = 1 then 0 else 6) p) 7 ?_ ?_ 7 1 b6 (by omega) (by omega) ⟨by omega, hb⟩
    · intro k s h
      refine pk_lt 6 7 (fun _ => ?_) (fun z => absurd z (by omega))
      rw [ck_ix, nI_clamp (by omega), h.2 (7 * m + n) (by omega)]
      exact ⟨pk_in (7 * m + n) 49 (by omega), H s⟩
    · intro k i s hi h hw
      refine pk_lt 6 i (fun z => absurd z (by omega)) (fun _ => ?_)
      unfold wpX_cyclesOf
      dsimp only
      by_cases e : i = 1
      · subst e
        rw [ck_cy1]
        exact ck_55 hc h.2 (fun b hb => hw b ⟨by omega, hb⟩)
      · rw [ck_cy2 i (by omega) (by omega)]
        have h2 := h.2
        rw [if_neg e] at h2
        exact ⟨1, br_t (by decide) (nm_r (nI_1 i) (hw s ⟨by omega, by rw [if_neg (by omega)]; exact h2⟩))⟩
  refine pk_loop (fun k i s => wX_leftWith_3 post 6 (nI m) (nI n) q0 (nI c) li sz sh k (nI i) a1 a2 a3 a4 a5 s) (fun i s => ∀ p, p < i → s p = ck_W c 0 p) 49 0 a6 (by omega) (fun p hp => absurd hp (by omega)) ?_ ?_
  · intro k s h
    exact pk_le 49 49 (fun _ => ⟨7, L36 s h⟩) (fun z => absurd z (by omega))
  · intro k i s hi h hw
    refine pk_le 49 i (fun z => absurd z (by omega)) (fun _ => pk_eq i 0 (fun z => ⟨pk_in i 49 hi, nm_e (nm_r (nI_1 i) (hw _ (ck_fill (nI_clamp (by omega)) h (if_pos z).symm)))⟩) (fun z => ⟨pk_in i 49 hi, nm_e (nm_r (nI_1 i) (hw _ (ck_fill (nI_clamp (by omega)) h (if_neg z).symm)))⟩))
theorem ck_39 {post : Int32 → St2 → Prop} {m n : Nat} (hc : c ≤ 3) (hm : m < 7) (hn : n < 7) (h4 : a4 0 = 6) (h5 : a5 0 = 1)
    (H : ∀ b6, post (ck_W c 6 (7 * m + n)) (q0, nI c, li, 1, 1, a1, a2, a3, a4, a5, b6)) :
    ∃ g, wX_kindsWith_39 post (nI m) (nI n) g 0 0 q0 (nI c) li 1 1 a1 a2 a3 a4 a5 a6 := by
  refine ⟨2, br_f (by decide) ⟨pk_in 0 12 (by decide), ?_⟩⟩
  rw [sb_cl0, h4]
  refine ck_left hc hm hn (fun b6 => ⟨pk_in 0 12 (by decide), nm_r (e' := ck_W c 6 (7 * m + n)) ?_ (nm_r (e' := 1) (by decide) (br_t (by decide) (br_f (by decide) ⟨by decide, ?_⟩)))⟩)
  · rw [h5, Int32.one_mul, Int32.zero_add]
  · rw [Int32.div_one]
    exact H b6
theorem ck_kw {post : Int32 → St2 → Prop} {q : Nat} {x : Int32} (hq : q ≤ 1) (hc : c ≤ 3) (hU : ck_U q c (q0, cc, li, sz, sh, a1, a2, a3, a4, a5, a6))
    (H : ∀ r f1 f2 f3 f4 f5 b1 b2 b3 b4 b5 b6, (x < 0 ∨ 6 < x → r = 0) → (∀ m, m < 7 → x = nI m → r = ck_W c 6 (7 * m + (6 - m))) → post r (f1, f2, f3, f4, f5, b1, b2, b3, b4, b5, b6)) :
    wpX_kindsWith post (q0, cc, li, sz, sh, a1, a2, a3, a4, a5, a6) x (6 - x) := by
  have out : ∀ f1 f2 f3 f4 f5 b1 b2 b3 b4 b5 b6, (x < 0 ∨ 6 < x) → post 0 (f1, f2, f3, f4, f5, b1, b2, b3, b4, b5, b6) := by
    intro f1 f2 f3 f4 f5 b1 b2 b3 b4 b5 b6 z
    refine H _ _ _ _ _ _ _ _ _ _ _ _ (fun _ => rfl) (fun m hm e => ?_)
    subst e
    rcases z with z | z
    · exact absurd z (nI_pos (by omega))
    · exact absurd ((nI_ltI (a := 6) (by omega) (by omega)).mp z) (by omega)
  refine br_c (fun z => out _ _ _ _ _ _ _ _ _ _ _ (Or.inl z)) (fun z => ?_)
  obtain ⟨m, hm, rfl⟩ := nI_of z
  by_cases h6 : 6 < m
  · have g : (6 : Int32) < nI m := nI_lt (a := 6) h6 hm
    exact br_c (fun _ => out _ _ _ _ _ _ _ _ _ _ _ (Or.inr g)) (fun _ => br_t g (out _ _ _ _ _ _ _ _ _ _ _ (Or.inr g)))
  · rw [show (6 : Int32) - nI m = nI (6 - m) from pk_sub (a := 6) (by omega)]
    refine br_f (nI_pos (by omega)) (pk_lt 6 m (fun z => absurd z (by omega)) (fun _ => pk_lt 6 (6 - m) (fun z => absurd z (by omega)) (fun _ => ?_)))
    rw [nI_add]
    refine pk_le (m + (6 - m)) 6 (fun _ => ?_) (fun z => absurd z (by omega))
    refine ck_lg hq hU (fun b2 b3 b4 b5 g1 g2 g4 g5 => ck_39 hc (by omega) (by omega) g4 g5 (fun b6 => H _ _ _ _ _ _ _ _ _ _ _ _ ?_ ?_))
    · intro y
      rcases y with y | y
      · exact absurd y z
      · exact absurd ((nI_ltI (a := 6) (by omega) hm).mp y) h6
    · intro m' hm' e
      rw [(nI_eq hm (by omega)).mp e]
end
end
section
/-! the law: its tail, and the whole -/
def ck_ways (x : Int32) : Int32 := if x = 0 ∨ x = 6 then 1 else if x = 1 ∨ x = 5 then 6 else if x = 3 then 20 else 15
theorem ck_tab : ∀ c, c < 4 → 0 < c → ∀ m, m < 7 → ck_W c 6 (7 * m + (6 - m)) = if 1 < c ∨ m = 6 then ck_ways (nI m) else 0 := by decide +kernel
/-- x is the code of a rearrangement -/
def ck_in (x : Int32) : Prop := ∃ k, k < 2 ^ 31 ∧ ck_code k ∧ x = nI k
section
variable {post : Int32 → St0 → Prop} {mc ms kc ks : Nat} {x0 x1 x2 x3 x5 x6 x7 x8 x9 x10 x11 x12 x13 x14 x15 z0 z1 : Int32}
theorem ck_269 (hp : post 1 ()) (h : z1 = z0) (h0 : x14 = 0 → x10 = 0) (h1 : ¬ x14 = 0 → x10 = x15) : wL_lawOf_269 post mc ms x10 x14 x15 z0 z1 kc ks :=
  br_t h (br_c (fun e => br_t (h0 e) hp) (fun e => br_t (h1 e) hp))
theorem ck_248 (hp : post 1 ()) (h : z1 = z0) (a : x2 < 0 ∨ x13 ≤ x2 → x9 = -4) (b : ¬ x2 < 0 → ¬ x13 ≤ x2 → x9 = x2) (h0 : x14 = 0 → x10 = 0) (h1 : ¬ x14 = 0 → x10 = x15) :
    wL_lawOf_248 post mc ms x2 x9 x10 x13 x14 x15 z0 z1 kc ks := by
  unfold wL_lawOf_248 wL_lawOf_267
  exact br_t h (br_c (fun e => ck_269 hp (a (Or.inl e)) h0 h1) (fun e => br_c (fun d => ck_269 hp (a (Or.inr d)) h0 h1) (fun d => ck_269 hp (b e d) h0 h1)))
theorem ck_228 (hp : post 1 ()) (h : z1 = z0) (c1 : x1 < 1 ∨ 3 < x1 → x8 = -1) (c2 : ¬ x1 < 1 → ¬ 3 < x1 → x8 = 2) (a : x2 < 0 ∨ x13 ≤ x2 → x9 = -4) (b : ¬ x2 < 0 → ¬ x13 ≤ x2 → x9 = x2) (h0 : x14 = 0 → x10 = 0) (h1 : ¬ x14 = 0 → x10 = x15) :
    wL_lawOf_228 post mc ms x1 x2 x8 x9 x10 x13 x14 x15 z0 z1 kc ks := by
  unfold wL_lawOf_228 wL_lawOf_247
  exact br_t h (br_c (fun e => ck_248 hp (c1 (Or.inl e)) a b h0 h1) (fun e => br_c (fun d => ck_248 hp (c1 (Or.inr d)) a b h0 h1) (fun d => ck_248 hp (c2 e d) a b h0 h1)))
theorem ck_192 (hp : post 1 ()) (h5 : x5 = 1) (i0 : x11 = 0 → x6 = -1 ∧ x7 = 44790) (i1 : ¬ x11 = 0 → x6 = 2 ∧ x7 = x0) (c1 : x1 < 1 ∨ 3 < x1 → x8 = -1) (c2 : ¬ x1 < 1 → ¬ 3 < x1 → x8 = 2) (a : x2 < 0 ∨ x13 ≤ x2 → x9 = -4) (b : ¬ x2 < 0 → ¬ x13 ≤ x2 → x9 = x2) (h0 : x14 = 0 → x10 = 0) (h1 : ¬ x14 = 0 → x10 = x15) :
    wL_lawOf_192 post mc ms x0 x1 x2 x5 x6 x7 x8 x9 x10 x11 x13 x14 x15 kc ks := by
  unfold wL_lawOf_192 wL_lawOf_212
  exact br_t h5 (br_c (fun e => br_t (i0 e).1 (br_c (fun _ => ck_228 hp (i0 e).2 c1 c2 a b h0 h1) (fun d => absurd e d))) (fun e => br_t (i1 e).1 (br_c (fun d => absurd d e) (fun _ => ck_228 hp (i1 e).2 c1 c2 a b h0 h1))))
theorem ck_149 (hp : post 1 ()) (h5 : x5 = 1) (i0 : x11 = 0 → x6 = -1 ∧ x7 = 44790) (i1 : ¬ x11 = 0 → x6 = 2 ∧ x7 = x0) (c1 : x1 < 1 ∨ 3 < x1 → x8 = -1) (c2 : ¬ x1 < 1 → ¬ 3 < x1 → x8 = 2) (a : x2 < 0 ∨ x13 ≤ x2 → x9 = -4) (b : ¬ x2 < 0 → ¬ x13 ≤ x2 → x9 = x2) (h0 : x14 = 0 → x10 = 0) (h1 : ¬ x14 = 0 → x10 = ck_ways x3) :
    wL_lawOf_149 post mc ms x0 x1 x2 x3 x5 x6 x7 x8 x9 x10 x11 x13 x14 kc ks := by
  have K : ∀ v, ck_ways x3 = v → wL_lawOf_192 post mc ms x0 x1 x2 x5 x6 x7 x8 x9 x10 x11 x13 x14 v kc ks := fun v hv => ck_192 hp h5 i0 i1 c1 c2 a b h0 (fun e => (h1 e).trans hv)
  unfold wL_lawOf_149 wL_lawOf_161 wL_lawOf_175
  refine br_c (fun e => K _ ?_) (fun e0 => br_c (fun e => K _ ?_) (fun e6 => br_c (fun e => K _ ?_) (fun e1 => br_c (fun e => K _ ?_) (fun e5 => br_c (fun e => K _ ?_) (fun e3 => K _ ?_)))))
  · exact if_pos (Or.inl e)
  · exact if_pos (Or.inr e)
  · exact (if_neg (fun t => t.elim e0 e6)).trans (if_pos (Or.inl e))
  · exact (if_neg (fun t => t.elim e0 e6)).trans (if_pos (Or.inr e))
  · exact (if_neg (fun t => t.elim e0 e6)).trans ((if_neg (fun t => t.elim e1 e5)).trans (if_pos e))
  · exact (if_neg (fun t => t.elim e0 e6)).trans ((if_neg (fun t => t.elim e1 e5)).trans (if_neg e3))
theorem ck_120 (hp : post 1 ()) {c : Nat} (hc0 : 0 < c) (hc : c < 4) (h5 : x5 = 1) (i0 : x11 = 0 → x6 = -1 ∧ x7 = 44790) (i1 : ¬ x11 = 0 → x6 = 2 ∧ x7 = x0) (c1 : x1 < 1 ∨ 3 < x1 → x8 = -1) (c2 : ¬ x1 < 1 → ¬ 3 < x1 → x8 = 2) (a : x2 < 0 ∨ x13 ≤ x2 → x9 = -4) (b : ¬ x2 < 0 → ¬ x13 ≤ x2 → x9 = x2)
    (k0 : x3 < 0 ∨ 6 < x3 → x10 = 0) (k1 : ∀ m, m < 7 → x3 = nI m → x10 = ck_W c 6 (7 * m + (6 - m))) :
    wL_lawOf_120 post mc ms x0 x1 x2 x3 x5 x6 x7 x8 x9 x10 x11 (nI c) x13 kc ks := by
  have Z : x10 = 0 → wL_lawOf_149 post mc ms x0 x1 x2 x3 x5 x6 x7 x8 x9 x10 x11 x13 0 kc ks := fun z => ck_149 hp h5 i0 i1 c1 c2 a b (fun _ => z) (fun t => absurd rfl t)
  have V : x10 = ck_ways x3 → wL_lawOf_149 post mc ms x0 x1 x2 x3 x5 x6 x7 x8 x9 x10 x11 x13 1 kc ks := fun z => ck_149 hp h5 i0 i1 c1 c2 a b (fun t => absurd t (by decide)) (fun _ => z)
  unfold wL_lawOf_120 wL_lawOf_148 wL_lawOf_144
  refine br_c (fun e => Z (k0 (Or.inl e))) (fun e => br_c (fun d => Z (k0 (Or.inr d))) (fun d => ?_))
  obtain ⟨m, hm, rfl⟩ := nI_of e
  have hm7 : m < 7 := by
    rcases Nat.lt_or_ge 6 m with y | y
    · exact absurd (nI_lt (a := 6) y hm) d
    · omega
  have t := ck_tab c hc hc0 m hm7
  have k := k1 m hm7 rfl
  rw [k] at Z V
  rw [k]
  refine pk_lt 1 c (fun y => V ?_) (fun y => pk_eq m 6 (fun w => V ?_) (fun w => Z ?_))
  · rw [t, if_pos (Or.inl y)]
  · rw [t, if_pos (Or.inr w)]
  · rw [t, if_neg (by omega)]
theorem ck_94 (hp : post 1 ()) {c : Nat} (hc0 : 0 < c) (hc : c < 4) (h5 : x5 = 1) (i0 : x11 = 0 → x6 = -1 ∧ x7 = 44790) (i1 : ¬ x11 = 0 → x6 = 2 ∧ x7 = x0) (c1 : x1 < 1 ∨ 3 < x1 → x8 = -1) (c2 : ¬ x1 < 1 → ¬ 3 < x1 → x8 = 2) (a : x2 < 0 ∨ nI (c ^ 6) ≤ x2 → x9 = -4) (b : ¬ x2 < 0 → ¬ nI (c ^ 6) ≤ x2 → x9 = x2)
    (k0 : x3 < 0 ∨ 6 < x3 → x10 = 0) (k1 : ∀ m, m < 7 → x3 = nI m → x10 = ck_W c 6 (7 * m + (6 - m))) :
    wL_lawOf_94 post mc ms x0 x1 x2 x3 x5 x6 x7 x8 x9 x10 x11 (nI c) kc ks := by
  refine pk_eq c 1 (fun z => ?_) (fun z => pk_eq c 2 (fun y => ?_) (fun y => ?_))
  · subst z
    exact ck_120 hp hc0 hc h5 i0 i1 c1 c2 a b k0 k1
  · subst y
    exact ck_120 hp hc0 hc h5 i0 i1 c1 c2 a b k0 k1
  · have w : c = 3 := by omega
    subst w
    exact ck_120 hp hc0 hc h5 i0 i1 c1 c2 a b k0 k1
theorem ck_77 (hp : post 1 ()) {c : Nat} (hc0 : 0 < c) (hc : c < 4) (h5 : x5 = 1) (i0 : x11 = 0 → x6 = -1 ∧ x7 = 44790) (i1 : ¬ x11 = 0 → x6 = 2 ∧ x7 = x0) (c1 : x1 < 1 ∨ 3 < x1 → c = 2 ∧ x8 = -1) (c2 : ¬ x1 < 1 → ¬ 3 < x1 → x1 = nI c ∧ x8 = 2) (a : x2 < 0 ∨ nI (c ^ 6) ≤ x2 → x9 = -4) (b : ¬ x2 < 0 → ¬ nI (c ^ 6) ≤ x2 → x9 = x2)
    (k0 : x3 < 0 ∨ 6 < x3 → x10 = 0) (k1 : ∀ m, m < 7 → x3 = nI m → x10 = ck_W c 6 (7 * m + (6 - m))) :
    wL_lawOf_77 post mc ms x0 x1 x2 x3 x5 x6 x7 x8 x9 x10 x11 kc ks := by
  have K : ∀ v, v = nI c → wL_lawOf_94 post mc ms x0 x1 x2 x3 x5 x6 x7 x8 x9 x10 x11 v kc ks := fun v hv => by
    subst hv
    exact ck_94 hp hc0 hc h5 i0 i1 (fun t => (c1 t).2) (fun t t' => (c2 t t').2) a b k0 k1
  unfold wL_lawOf_77 wL_lawOf_93
  exact br_c (fun e => K _ (by rw [(c1 (Or.inl e)).1]; rfl)) (fun e => br_c (fun d => K _ (by rw [(c1 (Or.inr d)).1]; rfl)) (fun d => K _ (c2 e d).1))
end
section
variable {q0 cc li sz sh : Int32} {a1 a2 a3 a4 a5 a6 : Nat → Int32}
theorem ck_add2 {post : Int32 → St2 → Prop} {x : Int32} (h1 : a1 0 = nI (ck_A 44790 6))
    (H : ∀ r q k b1, q ≤ 1 → k < 46656 → b1 q = nI (ck_A k 6) → b1 0 = 181896 → ((ck_in x ∧ r = 2 ∧ nI k = x) ∨ (¬ ck_in x ∧ r = -1 ∧ nI k = 44790)) → post r (nI (q + 1), cc, 0, sz, sh, b1, a2, a3, a4, a5, a6)) :
    wpX_add post (nI 1, cc, 0, sz, sh, a1, a2, a3, a4, a5, a6) x := by
  have h1' : a1 0 = 181896 := by rw [h1, ck_id_A]; rfl
  by_cases hx : x < 0
  · refine ck_addN (fun z => absurd hx (Int32.not_lt.mpr z)) (H (-1) 0 44790 a1 (by omega) (by omega) h1 h1' (Or.inr ⟨?_, rfl, rfl⟩))
    intro t
    obtain ⟨k, hk, _, e⟩ := t
    rw [e] at hx
    exact nI_pos hk hx
  · obtain ⟨k, hk, rfl⟩ := nI_of hx
    refine ck_add hk (by omega) (fun c => ?_) (fun c => ?_)
    · refine H 2 1 k _ (by omega) c.1 pk_us ?_ (Or.inl ⟨⟨k, hk, c, rfl⟩, rfl, rfl⟩)
      rw [pk_un (by decide)]
      exact h1'
    · refine H (-1) 0 44790 a1 (by omega) (by omega) h1 h1' (Or.inr ⟨?_, rfl, rfl⟩)
      intro t
      obtain ⟨k', hk', c', e⟩ := t
      rw [(nI_eq hk hk').mp e] at c
      exact c c'
theorem ck_col {post : Int32 → St2 → Prop} {x : Int32} (H : ∀ r c, 0 < c → c < 4 → (x < 1 ∨ 3 < x → c = 2 ∧ r = -1) → (¬ x < 1 → ¬ 3 < x → x = nI c ∧ r = 2) → post r (q0, nI c, li, sz, sh, a1, a2, a3, a4, a5, a6)) :
    wpX_colours post (q0, 2, li, sz, sh, a1, a2, a3, a4, a5, a6) x := by
  refine br_c (fun z => H (-1) 2 (by omega) (by omega) (fun _ => ⟨rfl, rfl⟩) (fun t => absurd z t)) (fun z => br_c (fun y => ?_) (fun y => H (-1) 2 (by omega) (by omega) (fun _ => ⟨rfl, rfl⟩) (fun _ t => absurd (Int32.not_le.mp y) t)))
  have hx : ¬ x < 0 := fun t => z (Int32.lt_trans t (by decide))
  obtain ⟨c, hc, rfl⟩ := nI_of hx
  have c0 : 0 < c := by
    rcases Nat.lt_or_ge 0 c with w | w
    · exact w
    · exact absurd (nI_lt (b := 1) (by omega) (by omega)) z
  have c4 : c ≤ 3 := (nI_leI (b := 3) hc (by omega)).mp y
  exact H 2 c c0 (by omega) (fun t => t.elim (fun w => absurd w z) (fun w => absurd y (Int32.not_le.mpr w))) (fun _ _ => ⟨rfl, rfl⟩)
theorem ck_isC {post : Int32 → Prop} {x : Int32} (hx : ¬ x < 0) (H : ∀ r, (r = 0 → ¬ ck_in x) → (¬ r = 0 → ck_in x) → post r) : wpL_isCode post () x := by
  obtain ⟨k, hk, rfl⟩ := nI_of hx
  refine ck_isCode9 hk (fun c => H 1 (fun t => absurd t (by decide)) (fun _ => ⟨k, hk, c, rfl⟩)) (fun c => H 0 (fun _ t => ?_) (fun t => absurd rfl t))
  obtain ⟨k', hk', c', e⟩ := t
  rw [(nI_eq hk hk').mp e] at c
  exact c c'
end
theorem ck_lawOf {post : Int32 → St0 → Prop} (hp : post 1 ()) (p0 p1 p2 p3 : Int32) : wpL_lawOf post 7 2855 () p0 p1 p2 p3 := by
  refine ⟨by decide, by decide, 6, 2844, by decide, by decide, by decide, by decide, by decide, by decide, by decide, by decide, by decide, by decide, by decide, by decide, by decide, by decide, ?_⟩
  refine ck_add (q := 0) (k := 44790) (by decide) (by decide) (fun _ => ?_) (fun h => absurd ck_id_code h)
  refine ck_add2 pk_us (fun r q k b1 hq hk hb hb0 hD => ?_)
  refine ck_remove (by omega) hk hb ?_
  refine ck_col (fun r8 c hc0 hc c1 c2 => ?_)
  refine ck_name hq hc0 (by omega) ⟨rfl, rfl, hb0, Or.inl rfl⟩ (fun r9 f1 f2 f3 f4 f5 b1 b2 b3 b4 b5 b6 hU n0 n1 => ?_)
  refine ck_kw hq (by omega) hU (fun r10 f1 f2 f3 f4 f5 b1 b2 b3 b4 b5 b6 k0 k1 => ?_)
  have out : ¬ ck_in p0 → r = -1 ∧ nI k = 44790 := fun z => hD.elim (fun t => absurd t.1 z) (fun t => t.2)
  have ins : ck_in p0 → r = 2 ∧ nI k = p0 := fun z => hD.elim (fun t => t.2) (fun t => absurd z t.1)
  refine br_c (fun z => ?_) (fun z => ck_isC z (fun r11 g0 g1 => br_c (fun e => ?_) (fun e => ?_)))
  · refine ck_77 hp hc0 hc rfl (fun _ => out (fun t => ?_)) (fun t => absurd rfl t) c1 c2 n0 n1 k0 k1
    obtain ⟨k', hk', _, e⟩ := t
    rw [e] at z
    exact nI_pos hk' z
  · exact ck_77 hp hc0 hc rfl (fun _ => out (g0 e)) (fun t => absurd rfl t) c1 c2 n0 n1 k0 k1
  · exact ck_77 hp hc0 hc rfl (fun t => absurd t (by decide)) (fun _ => ins (g1 e)) c1 c2 n0 n1 k0 k1
theorem ck_cell {post : Int32 → Prop} {L : Nat} {xs : Nat → Int32} (i : Nat) (hi : i ≤ 3) (hL : L ≤ 4) (H : ∀ r, post r) : wpL_cellAt post L xs () (nI i) :=
  pk_le L i (fun _ => H 0) (fun z => ⟨pk_in i L z, H _⟩)
theorem i_vc (xs : Nat → Int32) (L : Nat) (hL : L ≤ 4) : wpL_law (fun r => r = 1) L xs :=
  ck_cell 0 (by omega) hL (fun r1 => ck_cell 1 (by omega) hL (fun r2 => ck_cell 2 (by omega) hL (fun r3 => ck_cell 3 (by omega) hL (fun r4 => ⟨7, 2855, by decide, by decide, ck_lawOf rfl r1 r2 r3 r4⟩))))
end
