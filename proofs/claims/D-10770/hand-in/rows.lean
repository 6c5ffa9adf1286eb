section
/-! bits of an Int32 (the first rows began as the family 'Int32 by its bits' of BITS.to-paste, names changed) -/
def md_bt (x : Int32) (i : Nat) : Bool := x.toBitVec.getLsbD i
theorem md_ext {x y : Int32} (h : ∀ i, i < 32 → md_bt x i = md_bt y i) : x = y := Int32.toBitVec_inj.mp (BitVec.eq_of_getLsbD_eq (fun i hi => h i hi))
theorem md_or (x y : Int32) (i : Nat) : md_bt (x ||| y) i = (md_bt x i || md_bt y i) := by unfold md_bt; rw [Int32.toBitVec_or, BitVec.getLsbD_or]
theorem md_and (x y : Int32) (i : Nat) : md_bt (x &&& y) i = (md_bt x i && md_bt y i) := by unfold md_bt; rw [Int32.toBitVec_and, BitVec.getLsbD_and]
theorem md_xor (x y : Int32) (i : Nat) : md_bt (x ^^^ y) i = (md_bt x i ^^ md_bt y i) := by unfold md_bt; rw [Int32.toBitVec_xor, BitVec.getLsbD_xor]
theorem md_255 : ∀ i, i < 32 → md_bt 255 i = decide (i < 8) := by decide +kernel
theorem md_m1 : ∀ i, i < 32 → md_bt (-1) i = true := by decide +kernel
theorem md_0 (i : Nat) : md_bt 0 i = false := BitVec.getLsbD_zero
theorem md_1 : ∀ i, i < 32 → md_bt 1 i = decide (i = 0) := by decide +kernel
theorem md_sl : ∀ n, n < 32 → ((nI n &&& 31).toBitVec.smod 32).toNat = n := by decide +kernel
theorem md_su : ∀ n, n < 32 → (((nI n).toUInt32 &&& Int32.toUInt32 31).toBitVec % 32).toNat = n := by decide +kernel
/-- the set of one element -/
theorem md_one : ∀ n, n < 32 → ∀ i, i < 32 → md_bt ((1 : Int32) <<< (nI n &&& 31)) i = decide (i = n) := by decide +kernel
theorem md_ushr (n : Nat) (hn : n < 32) (x : Int32) (i : Nat) : md_bt ((x.toUInt32 >>> ((nI n).toUInt32 &&& Int32.toUInt32 31)).toInt32) i = md_bt x (n + i) := by
  show (x.toUInt32 >>> ((nI n).toUInt32 &&& Int32.toUInt32 31)).toBitVec.getLsbD i = x.toUInt32.toBitVec.getLsbD (n + i)
  rw [UInt32.toBitVec_shiftRight]
  show (x.toUInt32.toBitVec >>> (((nI n).toUInt32 &&& Int32.toUInt32 31).toBitVec % 32).toNat).getLsbD i = _
  rw [md_su n hn, BitVec.getLsbD_ushiftRight]
theorem md_sshr (n : Nat) (hn : n < 32) (x : Int32) {i : Nat} (hi : i < 32) : md_bt (x >>> (nI n &&& 31)) i = if n + i < 32 then md_bt x (n + i) else md_bt x 31 := by
  unfold md_bt
  rw [Int32.toBitVec_shiftRight]
  show (x.toBitVec.sshiftRight ((nI n &&& 31).toBitVec.smod 32).toNat).getLsbD i = _
  rw [md_sl n hn, BitVec.getLsbD_sshiftRight, BitVec.msb_eq_getLsbD_last]
  simp [hi]
theorem md_bool : ∀ b : Bool, ∀ j, j < 32 → md_bt (nI b.toNat) j = (b && decide (j = 0)) := by decide +kernel
/-- 'set >>> i & 1' -/
theorem md_val (x : Int32) (i : Nat) (hi : i < 32) : ((x.toUInt32 >>> ((nI i).toUInt32 &&& Int32.toUInt32 31)).toInt32) &&& 1 = nI (md_bt x i).toNat := by
  apply md_ext
  intro j hj
  rw [md_and, md_ushr i hi, md_1 j hj, md_bool _ j hj]
  by_cases h : j = 0
  · rw [h, Nat.add_zero]
  · rw [decide_eq_false h, Bool.and_false, Bool.and_false]
/-- 'set >> i & 1' -/
theorem md_vals (x : Int32) (i : Nat) (hi : i < 32) : (x >>> (nI i &&& 31)) &&& 1 = nI (md_bt x i).toNat := by
  apply md_ext
  intro j hj
  rw [md_and, md_sshr i hi x hj, md_1 j hj, md_bool _ j hj]
  by_cases h : j = 0
  · rw [h, Nat.add_zero, if_pos hi]
  · rw [decide_eq_false h, Bool.and_false, Bool.and_false]
theorem md_br0 {A B : Prop} {y : Int32} {b : Bool} (hy : y = nI b.toNat) (p : b = false → A) (q : b = true → B) : (y = 0 → A) ∧ (¬ y = 0 → B) := by
  subst hy
  cases b
  · exact br_t (by decide) (p rfl)
  · exact br_f (by decide) (q rfl)
theorem md_br {A B : Prop} (x : Int32) (i : Nat) (hi : i < 32) (p : md_bt x i = false → A) (q : md_bt x i = true → B) : ((((x.toUInt32 >>> ((nI i).toUInt32 &&& Int32.toUInt32 31)).toInt32) &&& 1) = 0 → A) ∧ (¬ (((x.toUInt32 >>> ((nI i).toUInt32 &&& Int32.toUInt32 31)).toInt32) &&& 1) = 0 → B) :=
  md_br0 (md_val x i hi) p q
/-- how many of the bits 0 .. n - 1 stand in x -/
def md_szn (x : Int32) : Nat → Nat
  | 0 => 0
  | n + 1 => md_szn x n + (md_bt x n).toNat
theorem md_szn_le (x : Int32) : ∀ n, md_szn x n ≤ n := by
  intro n
  induction n with
  | zero => exact Nat.le_refl 0
  | succ n ih =>
    have h : (md_bt x n).toNat ≤ 1 := Bool.toNat_le _
    show md_szn x n + (md_bt x n).toNat ≤ n + 1
    omega
theorem md_szn_free (x : Int32) : ∀ n, md_szn x n < n → ∃ j, j < n ∧ md_bt x j = false := by
  intro n
  induction n with
  | zero => intro h; exact absurd h (by omega)
  | succ n ih =>
    intro h
    have h' : md_szn x n + (md_bt x n).toNat < n + 1 := h
    cases hb : md_bt x n
    · exact ⟨n, by omega, hb⟩
    · rw [hb] at h'
      have h2 : md_szn x n + 1 < n + 1 := h'
      obtain ⟨j, hj, hf⟩ := ih (by omega)
      exact ⟨j, by omega, hf⟩
theorem md_szn_full (x : Int32) : ∀ n, md_szn x n = n → ∀ j, j < n → md_bt x j = true := by
  intro n
  induction n with
  | zero => intro h j hj; exact absurd hj (by omega)
  | succ n ih =>
    intro h j hj
    have h' : md_szn x n + (md_bt x n).toNat = n + 1 := h
    have hl := md_szn_le x n
    cases hb : md_bt x n
    · rw [hb] at h'
      have h2 : md_szn x n + 0 = n + 1 := h'
      exact absurd h2 (by omega)
    · rw [hb] at h'
      have h2 : md_szn x n + 1 = n + 1 := h'
      by_cases e : j = n
      · rw [e, hb]
      · exact ih (by omega) j (by omega)
theorem md_szn_0 : ∀ n, md_szn 0 n = 0 := by
  intro n
  induction n with
  | zero => rfl
  | succ n ih =>
    show md_szn 0 n + (md_bt 0 n).toNat = 0
    rw [ih, md_0]
    rfl
theorem md_szn_add (x : Int32) (r : Nat) (hr : r < 32) (hb : md_bt x r = false) : ∀ n, n ≤ 32 → md_szn (x ||| ((1 : Int32) <<< (nI r &&& 31))) n = md_szn x n + (if r < n then 1 else 0) := by
  intro n
  induction n with
  | zero => intro _; rfl
  | succ n ih =>
    intro hn
    show md_szn (x ||| ((1 : Int32) <<< (nI r &&& 31))) n + (md_bt (x ||| ((1 : Int32) <<< (nI r &&& 31))) n).toNat = md_szn x n + (md_bt x n).toNat + _
    rw [ih (by omega), md_or, md_one r hr n (by omega)]
    by_cases e : n = r
    · subst e
      rw [hb, if_neg (by omega), if_pos (by omega), decide_eq_true rfl]
      rfl
    · rw [decide_eq_false e, Bool.or_false]
      by_cases l : r < n
      · rw [if_pos l, if_pos (by omega)]
        omega
      · rw [if_neg l, if_neg (by omega)]
        omega
end
section
/-- vectorOf: element e has the vector v, all others 0 -/
def md_V (e v : Nat) (a : Nat → Int32) : Prop := e < 8 ∧ v < 32 ∧ ∀ j, j < 8 → a j = nI (if j = e then v else 0)
/-- the rank of the set x: 1 if v isn't 0 and e stands in x -/
def md_r (e v : Nat) (x : Int32) : Nat := (decide (v ≠ 0) && md_bt x e).toNat
theorem md_r_le (e v : Nat) (x : Int32) : md_r e v x ≤ 1 := Bool.toNat_le _
theorem md_r_0 {e v : Nat} {x : Int32} (h : v = 0) : md_r e v x = 0 := by
  unfold md_r
  rw [decide_eq_false (fun z => z h)]
  rfl
theorem md_r_f {e v : Nat} {x : Int32} (h : md_bt x e = false) : md_r e v x = 0 := by
  unfold md_r
  rw [h, Bool.and_false]
  rfl
theorem md_r_t {e v : Nat} {x : Int32} (hv : v ≠ 0) (h : md_bt x e = true) : md_r e v x = 1 := by
  unfold md_r
  rw [h, decide_eq_true hv]
  rfl
theorem md_hb : ∀ v, v < 32 → ∀ k, k < 5 → v < 2 ^ (k + 1) → md_bt (nI v) k = decide (2 ^ k ≤ v) := by decide +kernel
section
variable {post : Int32 → St2 → Prop} {f : Int32} {a1 a2 a3 a4 a5 a6 a7 a8 a9 a10 a11 : Nat → Int32} {e v : Nat}
theorem md_el (hv : v < 32) (hz : v ≠ 0 → ∀ k, k < 5 → a4 k = 0) (H0 : v = 0 → post 0 (f, a1, a2, a3, a4, a5, a6, a7, a8, a9, a10, a11)) (H1 : v ≠ 0 → ∀ b, post 1 (f, a1, a2, a3, b, a5, a6, a7, a8, a9, a10, a11)) :
    ∀ k, k ≤ 5 → v < 2 ^ k → wX_eliminate_4 post f a1 a2 a3 a4 a5 a6 a7 a8 a9 a10 a11 (k + 1) (nI v) (nI k + (-1)) := by
  intro k
  induction k with
  | zero =>
    intro _ h
    exact br_t (by decide) (H0 (by omega))
  | succ k ih =>
    intro hk h
    rw [pk_m1 k]
    refine br_f (nI_pos (by omega)) (md_br (nI v) k (by omega) (fun hb => nm_e (ih (by omega) ?_)) (fun hb => ?_))
    · rw [md_hb v hv k (by omega) h] at hb
      have h2 := of_decide_eq_false hb
      omega
    · rw [md_hb v hv k (by omega) h] at hb
      have h2 := of_decide_eq_true hb
      have h3 : 0 < 2 ^ k := Nat.two_pow_pos k
      have hn : v ≠ 0 := by omega
      refine ⟨pk_in k 5 (by omega), br_t ?_ ⟨pk_in k 5 (by omega), nm_e (H1 hn _)⟩⟩
      rw [nI_clamp (by omega)]
      exact hz hn k (by omega)
theorem md_elim {x : Int32} (hx : x = nI v) (hv : v < 32) (hz : v ≠ 0 → ∀ k, k < 5 → a4 k = 0) (H0 : v = 0 → post 0 (f, a1, a2, a3, a4, a5, a6, a7, a8, a9, a10, a11)) (H1 : v ≠ 0 → ∀ b, post 1 (f, a1, a2, a3, b, a5, a6, a7, a8, a9, a10, a11)) :
    wpX_eliminate post (f, a1, a2, a3, a4, a5, a6, a7, a8, a9, a10, a11) x := by
  have h := md_el hv hz H0 H1 5 (by omega) (by omega)
  rw [show nI 5 + (-1) = 4 by decide, ← hx] at h
  exact ⟨6, h⟩
theorem md_rank24 (hV : md_V e v a1) (x : Int32) (h4 : ∀ k, k < 5 → a4 k = 0) (H : ∀ b, post (nI (md_r e v x)) (f, a1, a2, a3, b, a5, a6, a7, a8, a9, a10, a11)) :
    ∃ n, wX_rank_24 post x n 0 0 f a1 a2 a3 a4 a5 a6 a7 a8 a9 a10 a11 := by
  obtain ⟨he, hv, ha⟩ := hV
  refine pk_loop (fun n i s => wX_rank_24 post x n (nI s.1) (nI i) f a1 a2 a3 s.2 a5 a6 a7 a8 a9 a10 a11) (fun i s => s.1 = (if e < i then md_r e v x else 0) ∧ (i ≤ e → ∀ k, k < 5 → s.2 k = 0)) 8 0 ((0 : Nat), a4) (by omega) ⟨rfl, fun _ => h4⟩ ?_ ?_
  · rintro n ⟨c, b⟩ ⟨hc, _⟩
    have hc' : c = md_r e v x := hc.trans (if_pos he)
    subst hc'
    exact pk_le 8 8 (fun _ => H b) (fun z => absurd z (by omega))
  · rintro n i ⟨c, b⟩ hi ⟨hc, hb⟩ hw
    have hc : c = (if e < i then md_r e v x else 0) := hc
    have hb : i ≤ e → ∀ k, k < 5 → b k = 0 := hb
    refine pk_le 8 i (fun z => absurd z (by omega)) (fun _ => md_br x i (by omega) (fun h => nm_r (nI_1 i) (hw (c, b) ⟨?_, fun h2 => hb (by omega)⟩)) (fun h => ⟨pk_in i 8 hi, ?_⟩))
    · show c = (if e < i + 1 then md_r e v x else 0)
      rw [hc]
      by_cases e1 : i = e
      · rw [if_neg (by omega), if_pos (by omega), md_r_f (by rw [← e1]; exact h)]
      · by_cases e2 : e < i
        · rw [if_pos e2, if_pos (by omega)]
        · rw [if_neg e2, if_neg (by omega)]
    · have hx : a1 (nI i).toNatClampNeg = nI (if i = e then v else 0) := by
        rw [nI_clamp (by omega)]
        exact ha i hi
      refine md_elim hx (by split <;> omega) (fun hn k hk => ?_) (fun h0 => br_t rfl (nm_r (Int32.add_zero _) (nm_r (nI_1 i) (hw (c, b) ⟨?_, fun h2 => hb (by omega)⟩)))) (fun h1 b' => br_f (by decide) (nm_r (nI_1 c) (nm_r (nI_1 i) (hw (c + 1, b') ⟨?_, fun h2 => ?_⟩))))
      · by_cases e1 : i = e
        · exact hb (by omega) k hk
        · rw [if_neg e1] at hn
          exact absurd rfl hn
      · show c = (if e < i + 1 then md_r e v x else 0)
        rw [hc]
        by_cases e1 : i = e
        · rw [if_pos e1] at h0
          rw [if_neg (by omega), if_pos (by omega), md_r_0 h0]
        · by_cases e2 : e < i
          · rw [if_pos e2, if_pos (by omega)]
          · rw [if_neg e2, if_neg (by omega)]
      · show c + 1 = (if e < i + 1 then md_r e v x else 0)
        by_cases e1 : i = e
        · rw [if_pos e1] at h1
          rw [hc, if_neg (by omega), if_pos (by omega), md_r_t h1 (by rw [← e1]; exact h)]
        · rw [if_neg e1] at h1
          exact absurd rfl h1
      · by_cases e1 : i = e
        · exact absurd h2 (by omega)
        · rw [if_neg e1] at h1
          exact absurd rfl h1
/-- rank: its answer md_r; it changes pivot alone -/
theorem md_rank (hV : md_V e v a1) (x : Int32) (H : ∀ b, post (nI (md_r e v x)) (f, a1, a2, a3, b, a5, a6, a7, a8, a9, a10, a11)) : wpX_rank post (f, a1, a2, a3, a4, a5, a6, a7, a8, a9, a10, a11) x := by
  refine pk_loop (fun n i s => wX_rank_2 post x f n (nI i) a1 a2 a3 s a5 a6 a7 a8 a9 a10 a11) (fun i s => ∀ k, k < i → s k = 0) 5 0 a4 (by omega) (fun k hk => absurd hk (by omega)) ?_ ?_
  · intro n s hs
    exact pk_le 5 5 (fun _ => md_rank24 hV x hs H) (fun z => absurd z (by omega))
  · intro n i s hi hs hw
    refine pk_le 5 i (fun z => absurd z (by omega)) (fun _ => ⟨pk_in i 5 hi, nm_e (nm_r (nI_1 i) (hw _ (fun k hk => ?_)))⟩)
    rw [nI_clamp (by omega)]
    by_cases e1 : k = i
    · rw [e1, pk_us]
    · rw [pk_un e1]
      exact hs k (by omega)
end
end
section
section
variable {post : Int32 → St2 → Prop} {f : Int32} {a1 a2 a3 a4 a5 a6 a7 a8 a9 a10 a11 : Nat → Int32} {e v : Nat}
theorem md_isLoop (hV : md_V e v a1) (i x : Int32) (H1 : md_r e v (x ||| ((1 : Int32) <<< (i &&& 31))) = md_r e v x → ∀ b, post 1 (f, a1, a2, a3, b, a5, a6, a7, a8, a9, a10, a11))
    (H0 : md_r e v (x ||| ((1 : Int32) <<< (i &&& 31))) ≠ md_r e v x → ∀ b, post 0 (f, a1, a2, a3, b, a5, a6, a7, a8, a9, a10, a11)) : wpX_isLoop post (f, a1, a2, a3, a4, a5, a6, a7, a8, a9, a10, a11) i x := by
  have l1 := md_r_le e v x
  have l2 := md_r_le e v (x ||| ((1 : Int32) <<< (i &&& 31)))
  unfold wpX_isLoop
  refine md_rank hV x (fun b => ?_)
  refine md_rank hV _ (fun b' => ?_)
  exact pk_eq (md_r e v (x ||| ((1 : Int32) <<< (i &&& 31)))) (md_r e v x) (fun h => H1 h b') (fun h => H0 h b')
/-- isBridge at a bridge -/
theorem md_isBridge (hV : md_V e v a1) (i x : Int32) {y : Int32} (hy : 255 &&& ((((1 : Int32) <<< ((i + 1) &&& 31)) - 1) ^^^ (-1)) = y)
    (h0 : md_r e v (x ||| y) = 0) (h1 : md_r e v ((x ||| y) ||| ((1 : Int32) <<< (i &&& 31))) = 1) (H1 : ∀ b, post 1 (f, a1, a2, a3, b, a5, a6, a7, a8, a9, a10, a11)) : wpX_isBridge post (f, a1, a2, a3, a4, a5, a6, a7, a8, a9, a10, a11) i x := by
  unfold wpX_isBridge
  refine nm_r hy ?_
  refine md_rank hV _ (fun b => ?_)
  refine md_rank hV _ (fun b' => ?_)
  rw [h0, h1]
  exact br_f (by decide) (H1 b')
end
section
variable {f : Int32} {a1 a2 a3 a4 a5 a6 a7 a8 a9 a10 a11 : Nat → Int32} {e v : Nat}
theorem md_ifc {e v i : Nat} {x : Int32} (h : ¬ i = e) : nI (if e < i ∧ md_bt x e = true then v else 0) = nI (if e < i + 1 ∧ md_bt x e = true then v else 0) := by
  by_cases c : e < i ∧ md_bt x e = true
  · rw [if_pos c, if_pos ⟨by omega, c.2⟩]
  · rw [if_neg c, if_neg (fun z => c ⟨by omega, z.2⟩)]
/-- cancels: no element of the set has a vector but 0 -/
theorem md_cancels {post : Int32 → Prop} (hV : md_V e v a1) (x : Int32) (H1 : md_r e v x = 0 → post 1) (H0 : md_r e v x ≠ 0 → post 0) : wpX_cancels post (f, a1, a2, a3, a4, a5, a6, a7, a8, a9, a10, a11) x := by
  obtain ⟨he, hv, ha⟩ := hV
  refine pk_loop (fun n i s => wX_cancels_4 post x f a1 a2 a3 a4 a5 a6 a7 a8 a9 a10 a11 n s (nI i)) (fun i s => s = nI (if e < i ∧ md_bt x e = true then v else 0)) 8 0 (0 : Int32) (by omega) rfl ?_ ?_
  · intro n s hs
    refine pk_le 8 8 (fun _ => ?_) (fun z => absurd z (by omega))
    refine pk_eq (if e < 8 ∧ md_bt x e = true then v else 0) 0 (fun h => H1 ?_) (fun h => H0 ?_) hs rfl (by split <;> omega) (by omega)
    · cases hb : md_bt x e
      · exact md_r_f hb
      · rw [if_pos ⟨he, hb⟩] at h
        exact md_r_0 h
    · cases hb : md_bt x e
      · rw [if_neg (by rw [hb]; exact fun z => absurd z.2 (by decide))] at h
        exact absurd rfl h
      · rw [if_pos ⟨he, hb⟩] at h
        rw [md_r_t h hb]
        decide
  · intro n i s hi hs hw
    refine pk_le 8 i (fun z => absurd z (by omega)) (fun _ => md_br x i (by omega) (fun h => nm_r Int32.xor_zero (nm_r (nI_1 i) (hw s ?_))) (fun h => ⟨pk_in i 8 hi, nm_e (nm_r (nI_1 i) (hw _ ?_))⟩))
    · rw [hs]
      by_cases e1 : i = e
      · rw [if_neg (fun z => absurd z.1 (by omega)), if_neg (fun z => by rw [← e1, h] at z; exact absurd z.2 (by decide))]
      · exact md_ifc e1
    · rw [nI_clamp (by omega), ha i hi, hs]
      by_cases e1 : i = e
      · rw [if_pos e1, if_neg (fun z => absurd z.1 (by omega)), if_pos ⟨by omega, by rw [← e1]; exact h⟩]
        exact Int32.zero_xor
      · rw [if_neg e1]
        exact Int32.xor_zero.trans (md_ifc e1)
end
theorem md_size {post : Int32 → Prop} {u : St0} (x : Int32) (H : post (nI (md_szn x 8))) : wpX_size post u x := by
  refine pk_loop (fun n i s => wX_size_4 post x n (nI s) (nI i)) (fun i s => s = md_szn x i) 8 0 (0 : Nat) (by omega) rfl ?_ ?_
  · intro n s hs
    subst hs
    exact pk_le 8 8 (fun _ => H) (fun z => absurd z (by omega))
  · intro n i s hi hs hw
    refine pk_le 8 i (fun z => absurd z (by omega)) (fun _ => nm_r (e' := nI (s + (md_bt x i).toNat)) ?_ (nm_r (nI_1 i) (hw _ ?_)))
    · rw [md_val x i (by omega), nI_add]
    · rw [hs]
      rfl
section
variable {post : Int32 → St2 → Prop} {f : Int32} {a1 a2 a3 a4 a5 a6 a7 a8 a9 a10 a11 : Nat → Int32} {e v : Nat}
theorem md_indep (hV : md_V e v a1) (x : Int32) (H1 : md_r e v x = md_szn x 8 → ∀ b, post 1 (f, a1, a2, a3, b, a5, a6, a7, a8, a9, a10, a11)) (H0 : md_r e v x ≠ md_szn x 8 → ∀ b, post 0 (f, a1, a2, a3, b, a5, a6, a7, a8, a9, a10, a11)) : wpX_isIndependent post (f, a1, a2, a3, a4, a5, a6, a7, a8, a9, a10, a11) x := by
  have l1 := md_r_le e v x
  have l2 := md_szn_le x 8
  unfold wpX_isIndependent
  refine md_rank hV x (fun b => ?_)
  refine md_size x ?_
  exact pk_eq (md_r e v x) (md_szn x 8) (fun h => H1 h b) (fun h => H0 h b)
end
theorem md_init {post : St2 → Prop} {q : Int32} (H : ∀ b, post (q, fun _ => 0, b, fun _ => 0, fun _ => 0, fun _ => 0, fun _ => 0, fun _ => 0, fun _ => 0, fun _ => 0, fun _ => 0, fun _ => 0)) : wpX_init post 11 97 q := by
  unfold wpX_init
  refine ⟨by omega, by omega, by omega, by omega, by omega, by omega, by omega, by omega, by omega, by omega, by omega, by omega, by omega, by omega, by omega, by omega, by omega, by omega, by omega, by omega, by omega, by omega, ?_⟩
  refine pk_loop (fun n i s => wX_init_93 post 11 97 11 97 q n (nI i) (fun _ => 0) s (fun _ => 0) (fun _ => 0) (fun _ => 0) (fun _ => 0) (fun _ => 0) (fun _ => 0) (fun _ => 0) (fun _ => 0) (fun _ => 0)) (fun _ _ => True) 8 0 (fun _ => 0) (by omega) trivial ?_ ?_
  · intro n s _
    exact pk_le 8 8 (fun _ => H s) (fun z => absurd z (by omega))
  · intro n i s hi _ hw
    exact pk_le 8 i (fun z => absurd z (by omega)) (fun _ => ⟨pk_in i 8 hi, nm_e (nm_r (nI_1 i) (hw _ trivial))⟩)
end
section
/-- what is contracted when element i's turn comes -/
def md_set (e v i : Nat) : Int32 := if v ≠ 0 ∧ e < i then (0 : Int32) ||| ((1 : Int32) <<< (nI e &&& 31)) else 0
theorem md_set_0 (e v : Nat) : md_set e v 0 = 0 := if_neg (fun z => absurd z.2 (by omega))
theorem md_set_t {e v i : Nat} (hv : v ≠ 0) (h : e < i) : md_set e v i = (0 : Int32) ||| ((1 : Int32) <<< (nI e &&& 31)) := if_pos ⟨hv, h⟩
theorem md_set_f {e v i : Nat} (h : i ≤ e) : md_set e v i = 0 := if_neg (fun z => absurd z.2 (by omega))
theorem md_set_s {e v i : Nat} (h : ¬ (v ≠ 0 ∧ e = i)) : md_set e v (i + 1) = md_set e v i := by
  unfold md_set
  by_cases hv : v ≠ 0
  · have h2 : e ≠ i := fun z => h ⟨hv, z⟩
    by_cases l : e < i
    · rw [if_pos ⟨hv, by omega⟩, if_pos ⟨hv, l⟩]
    · rw [if_neg (fun z => absurd z.2 (by omega)), if_neg (fun z => absurd z.2 l)]
  · rw [if_neg (fun z => hv z.1), if_neg (fun z => hv z.1)]
/-- an element other than e is a loop -/
theorem md_loop_t {e v i : Nat} (he : e < 8) (hi : i < 8) (h : ¬ (v ≠ 0 ∧ e = i)) (x : Int32) : md_r e v (x ||| ((1 : Int32) <<< (nI i &&& 31))) = md_r e v x := by
  unfold md_r
  by_cases hv : v ≠ 0
  · rw [md_or, md_one i (by omega) e (by omega), decide_eq_false (fun z => h ⟨hv, z⟩), Bool.or_false]
  · rw [decide_eq_false hv]
    rfl
theorem md_in {e i : Nat} (he : e < 8) (h : e = i) (x : Int32) : md_bt (x ||| ((1 : Int32) <<< (nI i &&& 31))) e = true := by
  rw [md_or, md_one i (by omega) e (by omega), decide_eq_true h, Bool.or_true]
/-- the elements behind i -/
theorem md_behind : ∀ i, i < 8 → md_bt (255 &&& ((((1 : Int32) <<< ((nI i + 1) &&& 31)) - 1) ^^^ (-1))) i = false := by decide +kernel
section
variable {post : Int32 → St2 → Prop} {f : Int32} {a1 a2 a3 a4 a5 a6 a7 a8 a9 a10 a11 : Nat → Int32} {e v : Nat}
theorem md_push {p0 p1 p2 p3 : Int32} (hp : p0 = nI 0) (H : post (nI 1) (f, a1, a2, a3, a4, a5, a6, a7, a8, upd a9 0 p1, upd a10 0 p2, upd a11 0 p3)) : wpX_pushPart post (f, a1, a2, a3, a4, a5, a6, a7, a8, a9, a10, a11) p0 p1 p2 p3 := by
  subst hp
  have h : (nI 0).toNatClampNeg = 0 := nI_clamp (by omega)
  refine ⟨pk_in 0 12 (by omega), nm_e ⟨pk_in 0 12 (by omega), nm_e ⟨pk_in 0 12 (by omega), nm_e ?_⟩⟩⟩
  rw [h, nI_1 0]
  exact H
theorem md_poly (hV : md_V e v a1) (H : ∀ b b9 b10 b11, post 1 (f, a1, a2, a3, b, a5, a6, a7, a8, b9, b10, b11)) : wpX_polynomial post (f, a1, a2, a3, a4, a5, a6, a7, a8, a9, a10, a11) 1 1 := by
  have he : e < 8 := hV.1
  have c0 : (nI 0).toNatClampNeg = 0 := nI_clamp (by omega)
  have L : ∃ n, wX_polynomial_29 post 1 1 (n + 1) (nI 1) 0 (nI 0) f a1 a2 a3 a4 a5 a6 a7 a8 (upd a9 0 0) (upd a10 0 0) (upd a11 0 1) := by
    refine pk_loop (fun n i s => wX_polynomial_29 post 1 1 (n + 1) (nI 1) 0 (nI i) f a1 a2 a3 s.1 a5 a6 a7 a8 s.2.1 s.2.2.1 s.2.2.2) (fun i s => s.2.1 0 = nI i ∧ s.2.2.1 0 = md_set e v i ∧ s.2.2.2 0 = 1) 8 0 (a4, upd a9 0 0, upd a10 0 0, upd a11 0 1) (by omega) ⟨(pk_us : upd a9 0 (nI 0) 0 = nI 0), (pk_us : upd a10 0 0 0 = 0).trans (md_set_0 e v).symm, (pk_us : upd a11 0 1 0 = 1)⟩ ?_ ?_
    · rintro n ⟨b, b9, b10, b11⟩ ⟨h9, h10, h11⟩
      have h9 : b9 (nI 0).toNatClampNeg = nI 8 := by rw [c0]; exact h9
      have h11 : b11 (nI 0).toNatClampNeg = 1 := by rw [c0]; exact h11
      refine pk_le 600 8 (fun z => absurd z (by omega)) (fun _ => pk_le 1 0 (fun z => absurd z (by omega)) (fun _ => ?_))
      refine nm_r (pk_m1 0) ⟨pk_in 0 12 (by omega), nm_r h9 ⟨pk_in 0 12 (by omega), nm_e ⟨pk_in 0 12 (by omega), nm_r h11 ?_⟩⟩⟩
      refine br_t rfl (nm_r (Int32.zero_add 1) (nm_r (nI_1 8) ?_))
      exact pk_le 600 9 (fun z => absurd z (by omega)) (fun _ => pk_le 0 0 (fun _ => H b b9 b10 b11) (fun z => absurd z (by omega)))
    · rintro n i ⟨b, b9, b10, b11⟩ hi ⟨h9, h10, h11⟩ hw
      have h9 : b9 (nI 0).toNatClampNeg = nI i := by rw [c0]; exact h9
      have h10 : b10 (nI 0).toNatClampNeg = md_set e v i := by rw [c0]; exact h10
      have h11 : b11 (nI 0).toNatClampNeg = 1 := by rw [c0]; exact h11
      refine pk_le 600 i (fun z => absurd z (by omega)) (fun _ => pk_le 1 0 (fun z => absurd z (by omega)) (fun _ => ?_))
      refine nm_r (pk_m1 0) ⟨pk_in 0 12 (by omega), nm_r h9 ⟨pk_in 0 12 (by omega), nm_r h10 ⟨pk_in 0 12 (by omega), nm_r h11 ?_⟩⟩⟩
      refine pk_eq i 8 (fun z => absurd z (by omega)) (fun _ => ?_)
      by_cases hb : v ≠ 0 ∧ e = i
      · have hs : md_set e v i = 0 := md_set_f (by omega)
        have hn : md_bt (0 ||| (255 &&& ((((1 : Int32) <<< ((nI i + 1) &&& 31)) - 1) ^^^ (-1)))) e = false := by
          rw [md_or, md_0, Bool.false_or, hb.2]
          exact md_behind i hi
        rw [hs]
        refine md_isLoop hV (nI i) 0 (fun z => ?_) (fun _ b' => ?_)
        · rw [md_r_t hb.1 (md_in he hb.2 0), md_r_f (md_0 e)] at z
          exact absurd z (by decide)
        · refine br_t rfl ?_
          refine md_isBridge hV (nI i) 0 rfl (md_r_f hn) (md_r_t hb.1 (md_in he hb.2 _)) (fun b'' => ?_)
          refine br_f (by decide) ?_
          refine md_push rfl ?_
          refine nm_r (nI_1 i) (hw (b'', upd b9 0 (nI i + 1), upd b10 0 (0 ||| ((1 : Int32) <<< (nI i &&& 31))), upd b11 0 (1 * 1)) ⟨?_, ?_, ?_⟩)
          · dsimp only; exact pk_us.trans (nI_1 i)
          · dsimp only; refine pk_us.trans ?_
            rw [md_set_t hb.1 (by omega), hb.2]
          · dsimp only; exact pk_us.trans (by decide)
      · refine md_isLoop hV (nI i) (md_set e v i) (fun _ b' => ?_) (fun z => absurd (md_loop_t he hi hb _) z)
        refine br_f (by decide) ?_
        refine md_push rfl ?_
        refine nm_r (nI_1 i) (hw (b', upd b9 0 (nI i + 1), upd b10 0 (md_set e v i), upd b11 0 (1 * 1)) ⟨?_, ?_, ?_⟩)
        · dsimp only; exact pk_us.trans (nI_1 i)
        · dsimp only; exact pk_us.trans (md_set_s hb).symm
        · dsimp only; exact pk_us.trans (by decide)
  obtain ⟨n, hn⟩ := L
  unfold wpX_polynomial
  exact nm_e (nm_e (nm_e ⟨n + 1, hn⟩))
theorem md_bases (hV : md_V e v a1) (H : ∀ b b9 b10 b11, post 1 (f, a1, a2, a3, b, a5, a6, a7, a8, b9, b10, b11)) : wpX_bases post (f, a1, a2, a3, a4, a5, a6, a7, a8, a9, a10, a11) := by
  unfold wpX_bases
  exact md_poly hV (fun b b9 b10 b11 => H b b9 b10 b11)
end
/-- how many circuits there are among the sets below k -/
def md_cnt (e v : Nat) : Nat → Nat
  | 0 => 0
  | k + 1 => md_cnt e v k + (if md_r e v (nI k) = 0 ∧ md_szn (nI k) 8 = 1 then 1 else 0)
theorem md_cnt_t {e v k : Nat} (h1 : md_r e v (nI k) = 0) (h2 : md_szn (nI k) 8 = 1) : md_cnt e v (k + 1) = md_cnt e v k + 1 := by
  show md_cnt e v k + _ = _
  rw [if_pos ⟨h1, h2⟩]
theorem md_cnt_f {e v k : Nat} (h : ¬ (md_r e v (nI k) = 0 ∧ md_szn (nI k) 8 = 1)) : md_cnt e v (k + 1) = md_cnt e v k := by
  show md_cnt e v k + _ = _
  rw [if_neg h, Nat.add_zero]
theorem md_cnt_1 (e v : Nat) : md_cnt e v 1 = 0 := by
  rw [md_cnt_f (fun z => by rw [nI_0, md_szn_0] at z; exact absurd z.2 (by decide))]
  rfl
theorem md_cnt_nz (e v : Nat) (hv : v ≠ 0) : ∀ k, md_cnt e v k = md_cnt e 1 k := by
  intro k
  induction k with
  | zero => rfl
  | succ k ih =>
    have hr : md_r e v (nI k) = md_r e 1 (nI k) := by
      unfold md_r
      rw [decide_eq_true hv, decide_eq_true (by decide)]
    show md_cnt e v k + (if md_r e v (nI k) = 0 ∧ md_szn (nI k) 8 = 1 then 1 else 0) = md_cnt e 1 k + (if md_r e 1 (nI k) = 0 ∧ md_szn (nI k) 8 = 1 then 1 else 0)
    rw [ih, hr]
theorem md_cnt_all : ∀ e, e < 8 → md_cnt e 0 256 = 8 ∧ md_cnt e 1 256 = 7 := by decide +kernel
theorem md_cnt_256 {e v : Nat} (he : e < 8) : md_cnt e v 256 = if v = 0 then 8 else 7 := by
  by_cases hv : v = 0
  · rw [if_pos hv, hv]
    exact (md_cnt_all e he).1
  · rw [if_neg hv, md_cnt_nz e v hv]
    exact (md_cnt_all e he).2
theorem md_sub1 : ∀ s, s < 9 → s ≠ 1 → ¬ nI 0 = nI s - 1 := by decide
section
variable {post : Int32 → St2 → Prop} {f : Int32} {a1 a2 a3 a4 a5 a6 a7 a8 a9 a10 a11 : Nat → Int32} {e v : Nat}
theorem md_circuits (hV : md_V e v a1) (H : ∀ b, post (nI (if v = 0 then 8 else 7)) (f, a1, a2, a3, b, a5, a6, a7, a8, a9, a10, a11)) : wpX_circuits post (f, a1, a2, a3, a4, a5, a6, a7, a8, a9, a10, a11) := by
  have he : e < 8 := hV.1
  refine pk_loop (fun n i s => wX_circuits_4 post n (nI s.1) (nI i) f a1 a2 a3 s.2 a5 a6 a7 a8 a9 a10 a11) (fun i s => s.1 = md_cnt e v i) 256 1 ((0 : Nat), a4) (by omega) (md_cnt_1 e v).symm ?_ ?_
  · rintro n ⟨c, b⟩ hc
    have hc : c = md_cnt e v 256 := hc
    rw [md_cnt_256 he] at hc
    subst hc
    exact pk_le 256 256 (fun _ => H b) (fun z => absurd z (by omega))
  · rintro n i ⟨c, b⟩ hi hc hw
    have hc : c = md_cnt e v i := hc
    refine pk_le 256 i (fun z => absurd z (by omega)) (fun _ => ?_)
    refine md_cancels hV (nI i) (fun h1 => ?_) (fun h0 => ?_)
    · refine br_f (by decide) ?_
      refine md_rank hV (nI i) (fun b' => ?_)
      refine md_size (nI i) ?_
      rw [h1]
      by_cases hs : md_szn (nI i) 8 = 1
      · rw [hs]
        exact br_t (by decide) (nm_r (nI_1 c) (nm_r (nI_1 i) (hw (c + 1, b') ((congrArg (· + 1) hc).trans (md_cnt_t h1 hs).symm))))
      · have hl := md_szn_le (nI i) 8
        exact br_f (md_sub1 _ (by omega) hs) (nm_r (nI_1 i) (hw (c, b') (hc.trans (md_cnt_f (fun z => hs z.2)).symm)))
    · exact br_t rfl (nm_r (nI_1 i) (hw (c, b) (hc.trans (md_cnt_f (fun z => h0 z.1)).symm)))
end
end
section
/-- the closure -/
def md_cl (e v : Nat) (x : Int32) : Int32 := if v ≠ 0 ∧ md_bt x e = false then 255 &&& (((1 : Int32) <<< (nI e &&& 31)) ^^^ (-1)) else 255
/-- element j doesn't make the rank larger -/
def md_cj (e v : Nat) (x : Int32) (j : Nat) : Bool := !(decide (v ≠ 0) && !(md_bt x e) && decide (j = e))
theorem md_cj_r {e v i : Nat} (he : e < 8) (hi : i < 8) (x : Int32) : md_r e v ((x &&& 255) ||| ((1 : Int32) <<< (nI i &&& 31))) = md_r e v (x &&& 255) ↔ md_cj e v x i = true := by
  unfold md_r md_cj
  rw [md_or, md_one i (by omega) e (by omega), md_and, md_255 e (by omega), decide_eq_true he, Bool.and_true]
  by_cases h : i = e
  · rw [decide_eq_true h, decide_eq_true h.symm]
    cases decide (v ≠ 0) <;> cases md_bt x e <;> decide
  · have h' : ¬ e = i := fun z => h z.symm
    rw [decide_eq_false h, decide_eq_false h']
    cases decide (v ≠ 0) <;> cases md_bt x e <;> decide
theorem md_cl_b {e v : Nat} (he : e < 8) (x : Int32) (j : Nat) (hj : j < 32) : md_bt (md_cl e v x) j = (md_bt (x &&& 255) j || (decide (j < 8) && md_cj e v x j)) := by
  rw [md_and, md_255 j hj]
  unfold md_cl md_cj
  by_cases hv : v ≠ 0
  · cases hb : md_bt x e
    · rw [if_pos ⟨hv, rfl⟩, md_and, md_255 j hj, md_xor, md_one e (by omega) j hj, md_m1 j hj, decide_eq_true hv]
      by_cases h : j = e
      · rw [h, hb, decide_eq_true he, decide_eq_true rfl]
        rfl
      · rw [decide_eq_false h]
        cases decide (j < 8) <;> cases md_bt x j <;> rfl
    · rw [if_neg (fun z => absurd z.2 (by decide)), md_255 j hj, decide_eq_true hv]
      cases decide (j < 8) <;> cases md_bt x j <;> rfl
  · rw [if_neg (fun z => hv z.1), md_255 j hj, decide_eq_false hv]
    cases decide (j < 8) <;> cases md_bt x j <;> rfl
section
variable {post : Int32 → St2 → Prop} {f : Int32} {a1 a2 a3 a4 a5 a6 a7 a8 a9 a10 a11 : Nat → Int32} {e v : Nat}
theorem md_closure (hV : md_V e v a1) (x : Int32) (H : ∀ b, post (md_cl e v x) (f, a1, a2, a3, b, a5, a6, a7, a8, a9, a10, a11)) : wpX_closure post (f, a1, a2, a3, a4, a5, a6, a7, a8, a9, a10, a11) x := by
  have he : e < 8 := hV.1
  unfold wpX_closure
  refine nm_e (md_rank hV _ (fun b => ?_))
  refine pk_loop (fun n i s => wX_closure_18 post (x &&& 255) (nI (md_r e v (x &&& 255))) n s.1 (nI i) f a1 a2 a3 s.2 a5 a6 a7 a8 a9 a10 a11) (fun i s => ∀ j, j < 32 → md_bt s.1 j = (md_bt (x &&& 255) j || (decide (j < i) && md_cj e v x j))) 8 0 (x &&& 255, b) (by omega) ?_ ?_ ?_
  · intro j hj
    show md_bt (x &&& 255) j = _
    rw [decide_eq_false (by omega), Bool.false_and, Bool.or_false]
  · rintro n ⟨c, b⟩ hc
    have hc' : c = md_cl e v x := md_ext (fun j hj => (hc j hj).trans (md_cl_b he x j hj).symm)
    subst hc'
    exact pk_le 8 8 (fun _ => H b) (fun z => absurd z (by omega))
  · rintro n i ⟨c, b⟩ hi hc hw
    have hc : ∀ j, j < 32 → md_bt c j = (md_bt (x &&& 255) j || (decide (j < i) && md_cj e v x j)) := hc
    have l1 := md_r_le e v (x &&& 255)
    have l2 := md_r_le e v ((x &&& 255) ||| ((1 : Int32) <<< (nI i &&& 31)))
    refine pk_le 8 i (fun z => absurd z (by omega)) (fun _ => ?_)
    refine md_rank hV _ (fun b' => ?_)
    refine pk_eq (md_r e v ((x &&& 255) ||| ((1 : Int32) <<< (nI i &&& 31)))) (md_r e v (x &&& 255)) (fun h => nm_e (nm_r (nI_1 i) (hw (c ||| ((1 : Int32) <<< (nI i &&& 31)), b') (fun j hj => ?_)))) (fun h => nm_r Int32.or_zero (nm_r (nI_1 i) (hw (c, b') (fun j hj => ?_))))
    · show md_bt (c ||| ((1 : Int32) <<< (nI i &&& 31))) j = _
      have hcj := (md_cj_r he hi x).mp h
      rw [md_or, hc j hj, md_one i (by omega) j hj]
      by_cases e1 : j = i
      · rw [e1, hcj, decide_eq_true rfl, decide_eq_true (show i < i + 1 by omega), Bool.or_true, Bool.and_true, Bool.or_true]
      · rw [decide_eq_false e1, Bool.or_false]
        by_cases e2 : j < i
        · rw [decide_eq_true e2, decide_eq_true (show j < i + 1 by omega)]
        · rw [decide_eq_false e2, decide_eq_false (show ¬ j < i + 1 by omega)]
    · show md_bt c j = _
      have hcj : md_cj e v x i = false := by
        cases hh : md_cj e v x i
        · rfl
        · exact absurd ((md_cj_r he hi x).mpr hh) h
      rw [hc j hj]
      by_cases e1 : j = i
      · rw [e1, hcj, Bool.and_false, Bool.and_false]
      · by_cases e2 : j < i
        · rw [decide_eq_true e2, decide_eq_true (show j < i + 1 by omega)]
        · rw [decide_eq_false e2, decide_eq_false (show ¬ j < i + 1 by omega)]
end
section
variable {post : Int32 → Prop} {f : Int32} {a1 a2 a3 a4 a5 a6 a7 a8 a9 a10 a11 : Nat → Int32}
theorem md_34 {J : Int32 → Int32 → Prop} (x : Int32) (i : Nat) {s z : Int32} (hi : i < 8) (H0 : md_bt x i = false → J s (nI (i + 1))) (H1 : md_bt x i = true → z = 0 → J s (nI (i + 1))) (H2 : md_bt x i = true → ¬ z = 0 → J (nI i) (nI (i + 1))) : wX_heaviestOf_34 post J x s (nI i) z f a1 a2 a3 a4 a5 a6 a7 a8 a9 a10 a11 :=
  md_br x i (by omega) (fun h => nm_r (nI_1 i) (H0 h)) (fun h => br_c (fun z => nm_r (nI_1 i) (H1 h z)) (fun z => nm_r (nI_1 i) (H2 h z)))
/-- heaviestOf: some element of the set, if it has one -/
theorem md_hof (x : Int32) {j : Nat} (hj : j < 8) (hb : md_bt x j = true) (H : ∀ r, r < 8 → md_bt x r = true → post (nI r)) : wpX_heaviestOf post (f, a1, a2, a3, a4, a5, a6, a7, a8, a9, a10, a11) x := by
  refine pk_loop (fun n i s => wX_heaviestOf_4 post x f a1 a2 a3 a4 a5 a6 a7 a8 a9 a10 a11 n s (nI i)) (fun i s => (s = -1 ∧ ∀ k, k < i → md_bt x k = false) ∨ ∃ r, r < i ∧ s = nI r ∧ md_bt x r = true) 8 0 (-1) (by omega) (Or.inl ⟨rfl, fun k hk => absurd hk (by omega)⟩) ?_ ?_
  · intro n s hs
    rcases hs with ⟨_, hn⟩ | ⟨r, hr, e1, hbr⟩
    · rw [hn j hj] at hb
      exact absurd hb (by decide)
    · subst e1
      exact pk_le 8 8 (fun _ => H r hr hbr) (fun z => absurd z (by omega))
  · intro n i s hi hs hw
    refine pk_le 8 i (fun z => absurd z (by omega)) (fun _ => ?_)
    rcases hs with ⟨e1, hn⟩ | ⟨r, hr, e1, hbr⟩
    · subst e1
      refine br_t (by decide) ?_
      refine md_34 (J := wX_heaviestOf_4 post x f a1 a2 a3 a4 a5 a6 a7 a8 a9 a10 a11 n) x i hi (fun h => hw (-1) (Or.inl ⟨rfl, fun k hk => ?_⟩)) (fun _ z => absurd z (by decide)) (fun h _ => hw (nI i) (Or.inr ⟨i, by omega, rfl, h⟩))
      by_cases e2 : k = i
      · rw [e2, h]
      · exact hn k (by omega)
    · subst e1
      have keep := hw (nI r) (Or.inr ⟨r, by omega, rfl, hbr⟩)
      refine br_f (nI_pos (by omega)) ⟨pk_in i 8 hi, pk_in r 8 (by omega), br_c (fun _ => ?_) (fun _ => ?_)⟩
      · exact md_34 (J := wX_heaviestOf_4 post x f a1 a2 a3 a4 a5 a6 a7 a8 a9 a10 a11 n) x i hi (fun _ => keep) (fun _ _ => keep) (fun h _ => hw (nI i) (Or.inr ⟨i, by omega, rfl, h⟩))
      · exact md_34 (J := wX_heaviestOf_4 post x f a1 a2 a3 a4 a5 a6 a7 a8 a9 a10 a11 n) x i hi (fun _ => keep) (fun _ _ => keep) (fun h _ => hw (nI i) (Or.inr ⟨i, by omega, rfl, h⟩))
end
/-- the elements not seen yet -/
theorem md_rest (x : Int32) (j : Nat) (hj : j < 8) : md_bt (255 &&& (x ^^^ (-1))) j = !(md_bt x j) := by
  rw [md_and, md_255 j (by omega), md_xor, md_m1 j (by omega), decide_eq_true hj]
  cases md_bt x j <;> rfl
/-- what is taken, after the elements of the set x were seen -/
def md_tk (e v : Nat) (x : Int32) : Int32 := if v ≠ 0 ∧ md_bt x e = true then (0 : Int32) ||| ((1 : Int32) <<< (nI e &&& 31)) else 0
def md_sm (e v : Nat) (w x : Int32) : Int32 := if v ≠ 0 ∧ md_bt x e = true then 0 + w else 0
theorem md_see {e v r : Nat} (he : e < 8) (hr : r < 8) (h : ¬ (v ≠ 0 ∧ r = e)) (x : Int32) : (v ≠ 0 ∧ md_bt (x ||| ((1 : Int32) <<< (nI r &&& 31))) e = true) = (v ≠ 0 ∧ md_bt x e = true) := by
  rw [md_or, md_one r (by omega) e (by omega)]
  by_cases hv : v ≠ 0
  · rw [decide_eq_false (fun z => h ⟨hv, z.symm⟩), Bool.or_false]
  · exact propext ⟨fun z => absurd z.1 hv, fun z => absurd z.1 hv⟩
theorem md_sz1 {r : Nat} (hr : r < 8) : md_szn ((0 : Int32) ||| ((1 : Int32) <<< (nI r &&& 31))) 8 = 1 := by
  rw [md_szn_add 0 r (by omega) (md_0 r) 8 (by omega), md_szn_0, if_pos hr]
/-- an element that isn't taken -/
theorem md_not {e v r : Nat} (he : e < 8) (hr : r < 8) (h : ¬ (v ≠ 0 ∧ r = e)) (x : Int32) : md_r e v (md_tk e v x ||| ((1 : Int32) <<< (nI r &&& 31))) ≠ md_szn (md_tk e v x ||| ((1 : Int32) <<< (nI r &&& 31))) 8 := by
  unfold md_tk
  by_cases c : v ≠ 0 ∧ md_bt x e = true
  · have hn : r ≠ e := fun z => h ⟨c.1, z⟩
    have hb : md_bt ((0 : Int32) ||| ((1 : Int32) <<< (nI e &&& 31))) r = false := by
      rw [md_or, md_0, md_one e (by omega) r (by omega), decide_eq_false hn]
      rfl
    rw [if_pos c, md_szn_add _ r (by omega) hb 8 (by omega), md_sz1 he, if_pos hr]
    have hl := md_r_le e v ((0 : Int32) ||| ((1 : Int32) <<< (nI e &&& 31)) ||| ((1 : Int32) <<< (nI r &&& 31)))
    omega
  · rw [if_neg c, md_sz1 hr]
    by_cases hv : v = 0
    · rw [md_r_0 hv]
      decide
    · have hn : e ≠ r := fun z => h ⟨hv, z.symm⟩
      rw [md_r_f (by rw [md_or, md_0, md_one r (by omega) e (by omega), decide_eq_false hn]; rfl)]
      decide
/-- i elements stand in x -/
def md_has (x : Int32) (i : Nat) : Prop := md_szn x 8 = i
theorem md_has_add {x : Int32} {i r : Nat} (h : md_has x i) (hr : r < 8) (hb : md_bt x r = false) : md_has (x ||| ((1 : Int32) <<< (nI r &&& 31))) (i + 1) := by
  unfold md_has at h
  unfold md_has
  rw [md_szn_add x r (by omega) hb 8 (by omega), h, if_pos hr]
theorem md_has_free {x : Int32} {i : Nat} (h : md_has x i) (hi : i < 8) : ∃ j, j < 8 ∧ md_bt x j = false := md_szn_free x 8 (Nat.lt_of_le_of_lt (Nat.le_of_eq h) hi)
theorem md_has_all {x : Int32} (h : md_has x 8) {j : Nat} (hj : j < 8) : md_bt x j = true := md_szn_full x 8 h j hj
section
variable {post : Int32 → St2 → Prop} {f : Int32} {a1 a2 a3 a4 a5 a6 a7 a8 a9 a10 a11 : Nat → Int32} {e v : Nat}
theorem md_heaviest (hV : md_V e v a1) (H : ∀ b, post (if v ≠ 0 then a3 e else 0) (f, a1, a2, a3, b, a5, a6, a7, a8, a9, a10, a11)) : wpX_heaviest post (f, a1, a2, a3, a4, a5, a6, a7, a8, a9, a10, a11) := by
  have he : e < 8 := hV.1
  refine pk_loop (fun n i s => wX_heaviest_9 post n s.1 s.2.1 s.2.2.1 (nI i) f a1 a2 a3 s.2.2.2 a5 a6 a7 a8 a9 a10 a11) (fun i s => md_has s.2.1 i ∧ s.1 = md_tk e v s.2.1 ∧ s.2.2.1 = md_sm e v (a3 e) s.2.1) 8 0 ((0 : Int32), (0 : Int32), (0 : Int32), a4) (by omega) ⟨?_, ?_, ?_⟩ ?_ ?_
  · show md_has 0 0
    exact md_szn_0 8
  · show (0 : Int32) = md_tk e v 0
    exact (if_neg (fun z => by rw [md_0] at z; exact absurd z.2 (by decide))).symm
  · show (0 : Int32) = md_sm e v (a3 e) 0
    exact (if_neg (fun z => by rw [md_0] at z; exact absurd z.2 (by decide))).symm
  · rintro n ⟨t, g, m, b⟩ ⟨hg, ht, hm⟩
    have hg : md_has g 8 := hg
    have hm : m = md_sm e v (a3 e) g := hm
    have hm' : m = if v ≠ 0 then a3 e else 0 := by
      rw [hm]
      unfold md_sm
      have hb := md_has_all hg he
      by_cases hv : v ≠ 0
      · rw [if_pos ⟨hv, hb⟩, if_pos hv, Int32.zero_add]
      · rw [if_neg (fun z => hv z.1), if_neg hv]
    refine pk_le 8 8 (fun _ => ?_) (fun z => absurd z (by omega))
    show post m _
    rw [hm']
    exact H b
  · rintro n i ⟨t, g, m, b⟩ hi ⟨hg', ht', hm'⟩ hw
    have hg : md_has g i := hg'
    have ht : t = md_tk e v g := ht'
    have hm : m = md_sm e v (a3 e) g := hm'
    clear hg' ht' hm'
    obtain ⟨j, hj, hjb⟩ := md_has_free hg hi
    refine pk_le 8 i (fun z => absurd z (by omega)) (fun _ => ?_)
    refine md_hof (255 &&& (g ^^^ (-1))) hj (by rw [md_rest g j hj, hjb]; rfl) (fun r hr hbr => ?_)
    have hgr : md_bt g r = false := by
      rw [md_rest g r hr] at hbr
      cases hh : md_bt g r
      · rfl
      · rw [hh] at hbr
        exact absurd hbr (by decide)
    have hz : md_has (g ||| ((1 : Int32) <<< (nI r &&& 31))) (i + 1) := md_has_add hg hr hgr
    refine nm_e ?_
    by_cases c : v ≠ 0 ∧ r = e
    · have hge : ¬ (v ≠ 0 ∧ md_bt g e = true) := fun z => by
        rw [← c.2, hgr] at z
        exact absurd z.2 (by decide)
      have hce : v ≠ 0 ∧ md_bt (g ||| ((1 : Int32) <<< (nI r &&& 31))) e = true := ⟨c.1, md_in he c.2.symm g⟩
      have ht0 : t = 0 := ht.trans (if_neg hge)
      have hm0 : m = 0 := hm.trans (if_neg hge)
      subst ht0 hm0
      refine md_indep hV _ (fun _ b' => ?_) (fun z => absurd ?_ z)
      · refine br_f (by decide) (nm_e ⟨pk_in r 8 hr, nm_e (nm_r (nI_1 i) (hw (0 ||| ((1 : Int32) <<< (nI r &&& 31)), g ||| ((1 : Int32) <<< (nI r &&& 31)), 0 + a3 (nI r).toNatClampNeg, b') ⟨hz, ?_, ?_⟩))⟩)
        · show (0 : Int32) ||| ((1 : Int32) <<< (nI r &&& 31)) = md_tk e v (g ||| ((1 : Int32) <<< (nI r &&& 31)))
          unfold md_tk
          rw [if_pos hce, c.2]
        · show 0 + a3 (nI r).toNatClampNeg = md_sm e v (a3 e) (g ||| ((1 : Int32) <<< (nI r &&& 31)))
          unfold md_sm
          rw [if_pos hce, nI_clamp (by omega), c.2]
      · rw [md_sz1 hr, md_r_t c.1 (md_in he c.2.symm 0)]
    · subst ht
      refine md_indep hV _ (fun z => absurd z (md_not he hr c g)) (fun _ b' => ?_)
      refine br_t rfl (nm_r (nI_1 i) (hw (md_tk e v g, g ||| ((1 : Int32) <<< (nI r &&& 31)), m, b') ⟨hz, ?_, ?_⟩))
      · show md_tk e v g = md_tk e v (g ||| ((1 : Int32) <<< (nI r &&& 31)))
        unfold md_tk
        simp only [md_see he hr c g]
      · show m = md_sm e v (a3 e) (g ||| ((1 : Int32) <<< (nI r &&& 31)))
        rw [hm]
        unfold md_sm
        simp only [md_see he hr c g]
end
end
section
section
variable {mc ms kc ks : Nat} {x0 x2 x3 x5 x6 z0 z1 : Int32} {f : Int32} {a1 a2 a3 a4 a5 a6 a7 a8 a9 a10 a11 : Nat → Int32} {e v : Nat}
theorem md_176 (hV : md_V e v a1) (h5 : x5 = nI (decide (v ≠ 0)).toNat) (hz : z0 = a3 e) : wL_lawOf_176 (fun r _ => r = 1) mc ms x5 z0 kc ks f a1 a2 a3 a4 a5 a6 a7 a8 a9 a10 a11 := by
  unfold wL_lawOf_176
  refine md_heaviest hV (fun b => ?_)
  refine md_br0 h5 (fun h => ?_) (fun h => ?_)
  · exact br_t (if_neg (of_decide_eq_false h)) rfl
  · exact br_t ((if_pos (of_decide_eq_true h)).trans hz.symm) rfl
theorem md_141 (hV : md_V e v a1) (hx : x0 &&& 7 = nI e) (h5 : x5 = nI (decide (v ≠ 0)).toNat) (hz : z1 = z0) : wL_lawOf_141 (fun r _ => r = 1) mc ms x0 x3 x5 z0 z1 kc ks f a1 a2 a3 a4 a5 a6 a7 a8 a9 a10 a11 := by
  have he : e < 8 := hV.1
  have hin : vp_in (x0 &&& 7) 8 := pk_in e 8 he hx
  have hc : (x0 &&& 7).toNatClampNeg = e := pk_cl e hx
  refine br_t hz ?_
  refine br_c (fun h1 => br_c (fun h2 => ⟨hin, nm_e ?_⟩) (fun h2 => ⟨hin, nm_e ?_⟩)) (fun h1 => ⟨hin, nm_e ?_⟩)
  · exact br_t h1 (br_t h2 (md_176 hV h5 (by rw [hc]; exact pk_us.symm)))
  · exact br_t h1 (br_f h2 (md_176 hV h5 (by rw [hc]; exact pk_us.symm)))
  · exact br_f h1 (md_176 hV h5 (by rw [hc]; exact pk_us.symm))
theorem md_98 (hV : md_V e v a1) (hx : x0 &&& 7 = nI e) (h5 : x5 = nI (decide (v ≠ 0)).toNat) (h6 : x6 = nI (decide (v ≠ 0) && md_bt x2 e).toNat) (hz : z1 = z0) : wL_lawOf_98 (fun r _ => r = 1) mc ms x0 x2 x3 x5 x6 z0 z1 kc ks f a1 a2 a3 a4 a5 a6 a7 a8 a9 a10 a11 := by
  refine br_t hz (md_closure hV x2 (fun b => ?_))
  refine md_br0 h5 (fun h => ?_) (fun h => ?_)
  · exact md_141 hV hx h5 (if_neg (fun z => of_decide_eq_false h z.1))
  · rw [h, Bool.true_and] at h6
    refine md_br0 h6 (fun g => ?_) (fun g => ?_)
    · refine md_141 hV hx h5 ?_
      rw [hx]
      exact if_pos ⟨of_decide_eq_true h, g⟩
    · exact md_141 hV hx h5 (if_neg (fun z => by rw [g] at z; exact absurd z.2 (by decide)))
theorem md_69 (hV : md_V e v a1) (hx : x0 &&& 7 = nI e) (h5 : x5 = nI (decide (v ≠ 0)).toNat) (h6 : x6 = nI (decide (v ≠ 0) && md_bt x2 e).toNat) (hz : z1 = z0) : wL_lawOf_69 (fun r _ => r = 1) mc ms x0 x2 x3 x5 x6 z0 z1 kc ks f a1 a2 a3 a4 a5 a6 a7 a8 a9 a10 a11 := by
  refine br_t hz (md_bases hV (fun b b9 b10 b11 => ?_))
  refine br_t rfl (md_circuits hV (fun b' => ?_))
  refine md_br0 h5 (fun h => ?_) (fun h => ?_)
  · refine md_98 hV hx h5 h6 ?_
    rw [if_pos (Decidable.not_not.mp (of_decide_eq_false h))]
    rfl
  · refine md_98 hV hx h5 h6 ?_
    rw [if_neg (of_decide_eq_true h)]
    rfl
theorem md_51 (hV : md_V e v a1) (hx : x0 &&& 7 = nI e) (h5 : x5 = nI (decide (v ≠ 0)).toNat) (h6 : x6 = nI (decide (v ≠ 0) && md_bt x2 e).toNat) : wL_lawOf_51 (fun r _ => r = 1) mc ms x0 x2 x3 x5 x6 kc ks f a1 a2 a3 a4 a5 a6 a7 a8 a9 a10 a11 := by
  unfold wL_lawOf_51
  refine md_rank hV x2 (fun b => ?_)
  refine md_br0 h6 (fun h => ?_) (fun h => ?_)
  · refine md_69 hV hx h5 h6 ?_
    unfold md_r
    rw [h]
    rfl
  · refine md_69 hV hx h5 h6 ?_
    unfold md_r
    rw [h]
    rfl
theorem md_28 (hV : md_V e v a1) (hx : x0 &&& 7 = nI e) (h5 : x5 = nI (decide (v ≠ 0)).toNat) : wL_lawOf_28 (fun r _ => r = 1) mc ms x0 x2 x3 x5 kc ks f a1 a2 a3 a4 a5 a6 a7 a8 a9 a10 a11 := by
  have he : e < 8 := hV.1
  refine md_br0 h5 (fun h => ?_) (fun h => ?_)
  · refine md_51 hV hx h5 ?_
    rw [h]
    rfl
  · refine md_br0 (b := md_bt x2 e) (by rw [hx]; exact md_vals x2 e (by omega)) (fun g => ?_) (fun g => ?_)
    · refine md_51 hV hx h5 ?_
      rw [h, g]
      rfl
    · refine md_51 hV hx h5 ?_
      rw [h, g]
      rfl
end
theorem md_lawOf (p0 p1 p2 p3 : Int32) : wpL_lawOf (fun r _ => r = 1) 12 109 () p0 p1 p2 p3 := by
  obtain ⟨e, he, hx⟩ := pk_andE p0 (m := 7) 3 (by decide)
  obtain ⟨v, hv, hy⟩ := pk_andE p1 (m := 31) 5 (by decide)
  have he : e < 8 := he
  have hv : v < 32 := hv
  unfold wpL_lawOf
  refine ⟨by omega, by omega, 11, 97, by omega, by omega, md_init (fun b => ?_)⟩
  have hV : md_V e v (upd (fun _ => 0) (p0 &&& 7).toNatClampNeg (p1 &&& 31)) := by
    refine ⟨he, hv, fun j hj => ?_⟩
    rw [show (p0 &&& 7).toNatClampNeg = e from pk_cl e hx, hy]
    by_cases h : j = e
    · rw [if_pos h, h, pk_us]
    · rw [if_neg h, pk_un h]
      rfl
  refine ⟨pk_in e 8 he hx, nm_e ?_⟩
  refine pk_eq v 0 (fun h => md_28 hV hx ?_) (fun h => md_28 hV hx ?_) hy rfl
  · rw [decide_eq_false (fun z => z h)]
    rfl
  · rw [decide_eq_true h]
    rfl
theorem md_cell {post : Int32 → Prop} {L : Nat} {xs : Nat → Int32} {u : St0} {p : Int32} (k : Nat) (hL : L ≤ 4) (hk : k < 4) (hp : p = nI k) (H : ∀ r, post r) : wpL_cellAt post L xs u p := by
  subst hp
  exact pk_le L k (fun _ => H _) (fun h => ⟨pk_in k L h, H _⟩)
theorem i_vc (xs : Nat → Int32) (L : Nat) (hL : L ≤ 4) : wpL_law (fun r => r = 1) L xs := by
  unfold wpL_law
  refine md_cell 0 hL (by omega) rfl (fun r1 => ?_)
  refine md_cell 1 hL (by omega) rfl (fun r2 => ?_)
  refine md_cell 2 hL (by omega) rfl (fun r3 => ?_)
  refine md_cell 3 hL (by omega) rfl (fun r4 => ?_)
  exact ⟨12, 109, by omega, by omega, md_lawOf r1 r2 r3 r4⟩
end
