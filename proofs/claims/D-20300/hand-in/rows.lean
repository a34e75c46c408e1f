section
/-- the j-th place of the way up from place n -/
def zh_pa (n : Nat) : Nat → Nat
  | 0 => n
  | j + 1 => (zh_pa n j - 1) / 2
/-- the array after k shifts along the way up from n -/
def zh_sh (a : Nat → Int32) (n : Nat) : Nat → (Nat → Int32)
  | 0 => a
  | k + 1 => upd (zh_sh a n k) (zh_pa n k) (zh_sh a n k (zh_pa n (k + 1)))
/-- the way is left at its k-th place, and no sooner -/
def zh_K (a : Nat → Int32) (x : Int32) (n k : Nat) : Prop := (∀ j, j < k → 0 < zh_pa n j ∧ ¬ a (zh_pa n (j + 1)) ≤ x) ∧ (zh_pa n k = 0 ∨ a (zh_pa n (k + 1)) ≤ x)
/-- least-first order below n -/
def zh_H (a : Nat → Int32) (n : Nat) : Prop := ∀ i, 0 < i → i < n → a ((i - 1) / 2) ≤ a i
/-- a below n, 0 from there on -/
def zh_w (a : Nat → Int32) (n : Nat) : Nat → Int32 := fun j => if j < n then a j else 0
theorem zh_pa_s (n j : Nat) : zh_pa n (j + 1) = (zh_pa n j - 1) / 2 := rfl
theorem zh_pa_dec {n j : Nat} (h : 0 < zh_pa n j) : zh_pa n (j + 1) < zh_pa n j := by
  rw [zh_pa_s]
  omega
theorem zh_pa_le1 (n j : Nat) : zh_pa n (j + 1) ≤ zh_pa n j := by
  rw [zh_pa_s]
  omega
theorem zh_pa_mono (n i d : Nat) : zh_pa n (i + d) ≤ zh_pa n i := by
  induction d with
  | zero => exact Nat.le_refl _
  | succ d ih => exact Nat.le_trans (zh_pa_le1 n (i + d)) ih
theorem zh_pa_le {n i j : Nat} (h : i ≤ j) : zh_pa n j ≤ zh_pa n i := by
  have := zh_pa_mono n i (j - i)
  rwa [show i + (j - i) = j by omega] at this
theorem zh_pa_n (n j : Nat) : zh_pa n j ≤ n := zh_pa_le (i := 0) (Nat.zero_le j)
theorem zh_pa_lt {n j : Nat} (hn : 0 < n) (hj : 1 ≤ j) : zh_pa n j < n :=
  Nat.lt_of_le_of_lt (zh_pa_le hj) (zh_pa_dec (n := n) (j := 0) hn)
theorem zh_pa_run (n j : Nat) : zh_pa n j = 0 ∨ zh_pa n j + j ≤ n := by
  induction j with
  | zero => exact Or.inr (Nat.le_refl n)
  | succ j ih =>
    rw [zh_pa_s]
    omega
theorem zh_pa_end (n : Nat) : zh_pa n n = 0 := by
  have := zh_pa_run n n
  omega
/-- how long the way is -/
theorem zh_m (n : Nat) : ∃ m, m ≤ n ∧ zh_pa n m = 0 ∧ ∀ j, j < m → 0 < zh_pa n j := by
  obtain ⟨m, h1, h2⟩ := pk_least (fun j => zh_pa n j = 0) ⟨n, zh_pa_end n⟩
  refine ⟨m, ?_, h1, fun j hj => Nat.pos_of_ne_zero (h2 j hj)⟩
  rcases Nat.lt_or_ge n m with h | h
  · exact absurd (zh_pa_end n) (h2 n h)
  · exact h
theorem zh_exK (a : Nat → Int32) (x : Int32) (n : Nat) : ∃ k, zh_K a x n k := by
  obtain ⟨k, h1, h2⟩ := pk_least (fun k => zh_pa n k = 0 ∨ a (zh_pa n (k + 1)) ≤ x) ⟨n, Or.inl (zh_pa_end n)⟩
  exact ⟨k, fun j hj => ⟨Nat.pos_of_ne_zero (fun e => h2 j hj (Or.inl e)), fun e => h2 j hj (Or.inr e)⟩, h1⟩
theorem zh_km {a : Nat → Int32} {x : Int32} {n k m : Nat} (hk : zh_K a x n k) (hm : zh_pa n m = 0) : k ≤ m := by
  rcases Nat.lt_or_ge m k with h | h
  · have := (hk.1 m h).1
    omega
  · exact h
theorem zh_sh_far {a : Nat → Int32} {n k p : Nat} (h : ∀ i, i < k → zh_pa n i ≠ p) : zh_sh a n k p = a p := by
  induction k with
  | zero => rfl
  | succ k ih =>
    show upd (zh_sh a n k) (zh_pa n k) (zh_sh a n k (zh_pa n (k + 1))) p = a p
    rw [pk_un (fun e => h k (by omega) e.symm)]
    exact ih (fun i hi => h i (by omega))
/-- the next place above is as it was -/
theorem zh_sh_at {a : Nat → Int32} {n k : Nat} (h : 0 < zh_pa n k) : zh_sh a n k (zh_pa n (k + 1)) = a (zh_pa n (k + 1)) :=
  zh_sh_far (fun i hi e => by
    have h1 := zh_pa_le (n := n) (i := i) (j := k) (by omega)
    have h2 := zh_pa_dec h
    omega)
theorem zh_lo {a : Nat → Int32} {x : Int32} {n k j : Nat} (hk : zh_K a x n k) (hj : j < k) : ¬ a (zh_pa n (j + 1)) ≤ x := (hk.1 j hj).2
theorem zh_hi {a : Nat → Int32} {x : Int32} {n k m : Nat} (hH : zh_H a n) (hk : zh_K a x n k) (hm : ∀ j, j < m → 0 < zh_pa n j) (d : Nat) : k + d < m → a (zh_pa n (k + d + 1)) ≤ x := by
  induction d with
  | zero =>
    intro h
    rcases hk.2 with e | e
    · have := hm k (by omega)
      omega
    · exact e
  | succ d ih =>
    intro h
    have h0 : 0 < n := hm 0 (by omega)
    have h1 := hm (k + d + 1) (by omega)
    exact Int32.le_trans (hH (zh_pa n (k + d + 1)) h1 (zh_pa_lt h0 (by omega))) (ih (by omega))
theorem zh_par {i : Nat} (h : 0 < i) (h2 : i < 2 ^ 31) : (nI i - 1) / 2 = nI ((i - 1) / 2) := by
  obtain ⟨j, rfl⟩ : ∃ j, i = j + 1 := ⟨i - 1, by omega⟩
  rw [nI_pred]
  exact pk_div (a := j) (d := 2) (by omega) (by decide) (by decide)
theorem zh_w0 (a : Nat → Int32) : zh_w a 0 = (fun _ => 0) := by
  funext j
  exact if_neg (by omega)
theorem zh_ws (a : Nat → Int32) (i : Nat) : upd (zh_w a i) i (a i) = zh_w a (i + 1) := by
  funext j
  by_cases e : j = i
  · rw [e, pk_us]
    exact (if_pos (by omega)).symm
  · rw [pk_un e]
    unfold zh_w
    by_cases e2 : j < i
    · rw [if_pos e2, if_pos (by omega)]
    · rw [if_neg e2, if_neg (by omega)]
theorem zh_w_cpy (a : Nat → Int32) (n : Nat) : va_cpy a (fun _ => 0) 0 0 n = zh_w a n := by
  funext j
  unfold zh_w
  by_cases e : j < n
  · rw [if_pos e, pk_cpy_in (by omega) (by omega), show 0 + (j - 0) = j by omega]
  · rw [if_neg e, pk_cpy_out (by omega)]
theorem zh_wH {a : Nat → Int32} {n : Nat} (h : zh_H a n) : zh_H (zh_w a n) n := by
  intro i h0 h1
  unfold zh_w
  rw [if_pos (by omega), if_pos h1]
  exact h i h0 h1
/-- the law's filling: between b and b + 15 (j + 1), in order -/
def zh_I (b : Int) (i : Nat) (s : Nat → Int32) : Prop := (∀ j, j < i → b ≤ (s j).toInt ∧ (s j).toInt ≤ b + 15 * ((j : Int) + 1)) ∧ zh_H s i
theorem zh_add {z : Int32} {d : Nat} (hd : d < 16) (h1 : -1073741824 ≤ z.toInt) (h2 : z.toInt ≤ 1073742000) : (z + nI d).toInt = z.toInt + d := by
  rw [Int32.toInt_add, nI_toInt (by omega)]
  exact Int.bmod_eq_of_le (by omega) (by omega)
theorem zh_I0 (b : Int) (s : Nat → Int32) : zh_I b 0 s := ⟨fun j hj => absurd hj (by omega), fun i _ hi => absurd hi (by omega)⟩
theorem zh_I1 {x8 : Int32} {s : Nat → Int32} {d : Nat} (hd : d < 16) (h1 : -1073741824 ≤ x8.toInt) (h2 : x8.toInt < 1073741824) : zh_I x8.toInt 1 (upd s 0 (x8 + nI d)) := by
  refine ⟨fun j hj => ?_, fun i h0 hi => absurd hi (by omega)⟩
  obtain rfl : j = 0 := by omega
  rw [pk_us, zh_add hd h1 (by omega)]
  omega
theorem zh_Is {b : Int} {s : Nat → Int32} {i d : Nat} (hd : d < 16) (h1 : -1073741824 ≤ b) (h2 : b < 1073741824) (hi : 0 < i) (hi7 : i < 7) (h : zh_I b i s) : zh_I b (i + 1) (upd s i (s ((i - 1) / 2) + nI d)) := by
  have hp := h.1 ((i - 1) / 2) (by omega)
  have ha : (s ((i - 1) / 2) + nI d).toInt = (s ((i - 1) / 2)).toInt + d := zh_add hd (by omega) (by omega)
  refine ⟨fun j hj => ?_, fun q h0 hq => ?_⟩
  · by_cases e : j = i
    · rw [e, pk_us, ha]
      omega
    · rw [pk_un e]
      exact h.1 j (by omega)
  · by_cases e : q = i
    · rw [e, pk_us, pk_un (by omega), Int32.le_iff_toInt_le, ha]
      omega
    · rw [pk_un e, pk_un (by omega)]
      exact h.2 q h0 (by omega)
theorem zh_base (c : Int32) : -1073741824 ≤ (c >>> ((1 : Int32) &&& 31)).toInt ∧ (c >>> ((1 : Int32) &&& 31)).toInt < 1073741824 := by
  rw [pk_shr c ((1 : Int32) &&& 31) 1 (by decide), Int.shiftRight_eq_div_pow]
  have h1 := Int32.le_toInt c
  have h2 := Int32.toInt_lt c
  omega
end
section
theorem zh_x43inl {post : Int32 → (St2 ⊕ St3) → Prop} {mc ms kc ks n N k : Nat} {x f : Int32} {a : Nat → Int32} (hn : n < N) (hN : N ≤ 16) (hk : zh_K a x n k)
    (hp : post (nI (zh_pa n k)) (.inl (f, upd (zh_sh a n k) (zh_pa n k) x, N))) : ∃ fu, wX5_pushValue_43 post mc ms fu (.inl (x, nI n, kc, ks, f, a, N)) := by
  refine pk_loop (fun fu i s => wX5_pushValue_43 post mc ms fu (.inl (x, nI (zh_pa n i), kc, ks, f, s, N))) (fun i s => s = zh_sh a n i) k 0 a (Nat.zero_le k) rfl ?_ ?_
  · intro fu s hs
    subst hs
    have hb := zh_pa_n n k
    have hb1 := zh_pa_n n (k + 1)
    refine pk_le (zh_pa n k) 0 (fun z => ⟨pk_in (zh_pa n k) N (by omega), nm_r (by rw [nI_clamp (by omega)]) hp⟩) (fun z => ?_)
    have e : (nI (zh_pa n k) - 1) / 2 = nI (zh_pa n (k + 1)) := zh_par z (by omega)
    refine ⟨by decide, pk_in (zh_pa n (k + 1)) N (by omega) e, br_t ?_ ⟨pk_in (zh_pa n k) N (by omega), nm_r (by rw [nI_clamp (by omega)]) hp⟩⟩
    rw [e, nI_clamp (by omega), zh_sh_at z]
    exact hk.2.resolve_left (by omega)
  · intro fu i s hi hs hw
    subst hs
    have hb := zh_pa_n n i
    have hb1 := zh_pa_n n (i + 1)
    obtain ⟨z, hx⟩ := hk.1 i hi
    have e : (nI (zh_pa n i) - 1) / 2 = nI (zh_pa n (i + 1)) := zh_par z (by omega)
    refine pk_le (zh_pa n i) 0 (fun z2 => absurd z2 (by omega)) (fun _ => ?_)
    refine ⟨by decide, pk_in (zh_pa n (i + 1)) N (by omega) e, br_f ?_ ⟨by decide, pk_in (zh_pa n (i + 1)) N (by omega) e, pk_in (zh_pa n i) N (by omega), nm_r ?_ ⟨by decide, nm_r e (hw _ rfl)⟩⟩⟩
    · rw [e, nI_clamp (by omega), zh_sh_at z]
      exact hx
    · rw [e, nI_clamp (by omega), nI_clamp (by omega)]
      rfl
theorem zh_x43inr {post : Int32 → (St2 ⊕ St3) → Prop} {mc ms kc ks n N k N1 : Nat} {x f : Int32} {a a1 : Nat → Int32} (hn : n < N) (hN : N ≤ 16) (hk : zh_K a x n k)
    (hp : post (nI (zh_pa n k)) (.inr (f, upd (zh_sh a n k) (zh_pa n k) x, N, a1, N1))) : ∃ fu, wX5_pushValue_43 post mc ms fu (.inr (x, nI n, kc, ks, f, a, N, a1, N1)) := by
  refine pk_loop (fun fu i s => wX5_pushValue_43 post mc ms fu (.inr (x, nI (zh_pa n i), kc, ks, f, s, N, a1, N1))) (fun i s => s = zh_sh a n i) k 0 a (Nat.zero_le k) rfl ?_ ?_
  · intro fu s hs
    subst hs
    have hb := zh_pa_n n k
    have hb1 := zh_pa_n n (k + 1)
    refine pk_le (zh_pa n k) 0 (fun z => ⟨pk_in (zh_pa n k) N (by omega), nm_r (by rw [nI_clamp (by omega)]) hp⟩) (fun z => ?_)
    have e : (nI (zh_pa n k) - 1) / 2 = nI (zh_pa n (k + 1)) := zh_par z (by omega)
    refine ⟨by decide, pk_in (zh_pa n (k + 1)) N (by omega) e, br_t ?_ ⟨pk_in (zh_pa n k) N (by omega), nm_r (by rw [nI_clamp (by omega)]) hp⟩⟩
    rw [e, nI_clamp (by omega), zh_sh_at z]
    exact hk.2.resolve_left (by omega)
  · intro fu i s hi hs hw
    subst hs
    have hb := zh_pa_n n i
    have hb1 := zh_pa_n n (i + 1)
    obtain ⟨z, hx⟩ := hk.1 i hi
    have e : (nI (zh_pa n i) - 1) / 2 = nI (zh_pa n (i + 1)) := zh_par z (by omega)
    refine pk_le (zh_pa n i) 0 (fun z2 => absurd z2 (by omega)) (fun _ => ?_)
    refine ⟨by decide, pk_in (zh_pa n (i + 1)) N (by omega) e, br_f ?_ ⟨by decide, pk_in (zh_pa n (i + 1)) N (by omega) e, pk_in (zh_pa n i) N (by omega), nm_r ?_ ⟨by decide, nm_r e (hw _ rfl)⟩⟩⟩
    · rw [e, nI_clamp (by omega), zh_sh_at z]
      exact hx
    · rw [e, nI_clamp (by omega), nI_clamp (by omega)]
      rfl
theorem zh_copy {post : StJdf173 → Prop} {n : Nat} {a : Nat → Int32} (hn : n ≤ 7) (hp : post (a, n, zh_w a n, 2 * n + 1)) : wpJ7_copyOf_59c91_8bd53 post 1 15 (a, n) ((nI n * 2) + 1) := by
  have e : nI n * 2 + 1 = nI (2 * n + 1) := by
    rw [show nI n * 2 = nI (n * 2) from pk_mul n 2, nI_1, Nat.mul_comm]
  rw [e]
  unfold wpJ7_copyOf_59c91_8bd53
  dsimp only
  have f : (if nI (2 * n + 1) < Int32.ofNat n then nI (2 * n + 1) else Int32.ofNat n) = nI n := if_neg (nI_nlt (by omega) (by omega))
  rw [f, nI_clamp (show n < 2 ^ 31 by omega), nI_clamp (show 2 * n + 1 < 2 ^ 31 by omega), sb_cl0]
  exact pk_eq (2 * n + 1) n (fun z => absurd z (by omega)) (fun _ => ⟨nI_pos (by omega), nm_e ⟨by omega, by omega, by omega, by decide, by decide, nI_pos (by omega), by omega, by omega, nm_r (zh_w_cpy a n) hp⟩⟩)
theorem zh_X5r {post : Int32 → (St2 ⊕ St3) → Prop} {mc ms n N k : Nat} {x : Int32} {a : Nat → Int32} (hn : n < N) (hN : N ≤ 16) (hk : zh_K a x n k)
    (hp : post (nI (zh_pa n k)) (.inl (nI (n + 1), upd (zh_sh a n k) (zh_pa n k) x, N))) : wpX5_pushValue post mc ms (nI n, a, N) x :=
  pk_eq n N (fun z => absurd z (by omega)) (fun _ => nm_r (nI_1 n) (zh_x43inl hn hN hk hp))
theorem zh_X5g {post : Int32 → (St2 ⊕ St3) → Prop} {mc ms n k : Nat} {x : Int32} {a : Nat → Int32} (hn : n ≤ 7) (hmc : 1 ≤ mc) (hms : 15 ≤ ms) (hk : zh_K (zh_w a n) x n k)
    (hp : post (nI (zh_pa n k)) (.inr (nI (n + 1), upd (zh_sh (zh_w a n) n k) (zh_pa n k) x, 2 * n + 1, a, n))) : wpX5_pushValue post mc ms (nI n, a, n) x :=
  br_t rfl ⟨1, 15, by omega, by omega, zh_copy hn (nm_r (nI_1 n) (zh_x43inr (by omega) (by omega) hk hp))⟩
end
section
theorem zh_y134inl {post : Int32 → (St2 ⊕ St3) → Prop} {mc ms kc ks n N k : Nat} {x f : Int32} {a up : Nat → Int32} (hn : n < N) (hN : N ≤ 16) (hk7 : k ≤ 7) (hup : ∀ i, i ≤ k → up i = nI (zh_pa n i))
    (hp : post (nI (zh_pa n k)) (.inl (f, upd (zh_sh a n k) (zh_pa n k) x, N))) : ∃ fu, wX6_pushValue_134 post mc ms fu (.inl (x, nI k, nI 0, kc, ks, f, a, N, up, 40)) := by
  refine pk_loop (fun fu j s => wX6_pushValue_134 post mc ms fu (.inl (x, nI k, nI j, kc, ks, f, s, N, up, 40))) (fun j s => s = zh_sh a n j) k 0 a (Nat.zero_le k) rfl ?_ ?_
  · intro fu s hs
    subst hs
    have hb := zh_pa_n n k
    refine pk_le k k (fun _ => ?_) (fun z => absurd z (by omega))
    rw [nI_clamp (show k < 2 ^ 31 by omega), hup k (Nat.le_refl k), nI_clamp (show zh_pa n k < 2 ^ 31 by omega)]
    exact ⟨pk_in k 40 (by omega), pk_in (zh_pa n k) N (by omega), nm_e ⟨pk_in k 40 (by omega), hp⟩⟩
  · intro fu j s hj hs hw
    subst hs
    have hb := zh_pa_n n j
    have hb1 := zh_pa_n n (j + 1)
    refine pk_le k j (fun z => absurd z (by omega)) (fun _ => ?_)
    rw [nI_1 j, nI_clamp (show j < 2 ^ 31 by omega), nI_clamp (show j + 1 < 2 ^ 31 by omega), hup j (by omega), hup (j + 1) (by omega), nI_clamp (show zh_pa n j < 2 ^ 31 by omega), nI_clamp (show zh_pa n (j + 1) < 2 ^ 31 by omega)]
    exact ⟨pk_in j 40 (by omega), pk_in (j + 1) 40 (by omega), pk_in (zh_pa n (j + 1)) N (by omega), pk_in (zh_pa n j) N (by omega), nm_e (nm_e (hw _ rfl))⟩
theorem zh_y102inl {post : Int32 → (St2 ⊕ St3) → Prop} {mc ms kc ks n N k m : Nat} {x f : Int32} {a up : Nat → Int32} (hn : n < N) (hN : N ≤ 16) (hm7 : m ≤ 7) (hH : zh_H a n) (hk : zh_K a x n k) (hm0 : zh_pa n m = 0) (hmp : ∀ j, j < m → 0 < zh_pa n j) (hup : ∀ i, i ≤ m → up i = nI (zh_pa n i))
    (hp : post (nI (zh_pa n k)) (.inl (f, upd (zh_sh a n k) (zh_pa n k) x, N))) : ∃ fu, wX6_pushValue_102 post mc ms fu (.inl (x, nI m, nI 0, nI (0 + 1), kc, ks, f, a, N, up, 40)) := by
  have hkm := zh_km hk hm0
  refine pk_loop (σ := Nat) (fun fu j c => wX6_pushValue_102 post mc ms fu (.inl (x, nI m, nI c, nI (j + 1), kc, ks, f, a, N, up, 40))) (fun j c => c = min j k) m 0 0 (Nat.zero_le m) (show 0 = min 0 k by omega) ?_ ?_
  · intro fu c hc
    have hc1 : c = min m k := hc
    have hc2 : k = c := by omega
    subst hc2
    exact pk_lt m (m + 1) (fun _ => zh_y134inl hn hN (by omega) (fun i hi => hup i (by omega)) hp) (fun z => absurd z (by omega))
  · intro fu j c hj hc hw
    have hc1 : c = min j k := hc
    have hb1 := zh_pa_n n (j + 1)
    refine pk_lt m (j + 1) (fun z => absurd z (by omega)) (fun _ => ?_)
    rw [nI_clamp (show j + 1 < 2 ^ 31 by omega), hup (j + 1) (by omega), nI_clamp (show zh_pa n (j + 1) < 2 ^ 31 by omega)]
    refine ⟨pk_in (j + 1) 40 (by omega), pk_in (zh_pa n (j + 1)) N (by omega), ?_⟩
    by_cases hjk : j < k
    · exact br_f (zh_lo hk hjk) (nm_r (nI_1 c) (nm_r (nI_1 (j + 1)) (hw (c + 1) (show c + 1 = min (j + 1) k by omega))))
    · have h3 := zh_hi hH hk hmp (j - k) (by omega)
      rw [show k + (j - k) + 1 = j + 1 by omega] at h3
      exact br_t h3 (nm_r (nI_1 (j + 1)) (hw c (show c = min (j + 1) k by omega)))
theorem zh_y71inl {post : Int32 → (St2 ⊕ St3) → Prop} {mc ms kc ks n N k : Nat} {x f : Int32} {a : Nat → Int32} (hn : n < N) (hN : N ≤ 16) (hn7 : n ≤ 7) (hH : zh_H a n) (hk : zh_K a x n k)
    (hp : post (nI (zh_pa n k)) (.inl (f, upd (zh_sh a n k) (zh_pa n k) x, N))) : ∃ fu, wX6_pushValue_71 post mc ms fu (.inl (x, nI 0, nI n, kc, ks, f, a, N, (fun _ => 0), 40)) := by
  obtain ⟨m, hmn, hm0, hmp⟩ := zh_m n
  refine pk_loop (fun fu j up => wX6_pushValue_71 post mc ms fu (.inl (x, nI j, nI (zh_pa n j), kc, ks, f, a, N, up, 40))) (fun j up => ∀ i, up i = if i < j then nI (zh_pa n i) else 0) m 0 (fun _ => 0) (Nat.zero_le m) (fun i => (if_neg (Nat.not_lt_zero i)).symm) ?_ ?_
  · intro fu up hu
    have hu1 : ∀ i, up i = if i < m then nI (zh_pa n i) else 0 := hu
    have hup : ∀ i, i ≤ m → up i = nI (zh_pa n i) := by
      intro i hi
      rw [hu1 i]
      by_cases e : i < m
      · exact if_pos e
      · have e2 : i = m := by omega
        rw [if_neg e, e2, hm0]
        rfl
    exact pk_le (zh_pa n m) 0 (fun _ => zh_y102inl hn hN (by omega) hH hk hm0 hmp hup hp) (fun z => absurd z (by omega))
  · intro fu j up hj hu hw
    have hu1 : ∀ i, up i = if i < j then nI (zh_pa n i) else 0 := hu
    have hb := zh_pa_n n j
    have hpos := hmp j hj
    have hn1 : ∀ i, upd up j (nI (zh_pa n j)) i = if i < j + 1 then nI (zh_pa n i) else 0 := by
      intro i
      by_cases e : i = j
      · rw [e, pk_us, if_pos (by omega)]
      · rw [pk_un e, hu1 i]
        by_cases e2 : i < j
        · rw [if_pos e2, if_pos (by omega)]
        · rw [if_neg e2, if_neg (by omega)]
    exact pk_le (zh_pa n j) 0 (fun z => absurd z (by omega)) (fun z => ⟨pk_in j 40 (by omega), nm_r (e' := upd up j (nI (zh_pa n j))) (by rw [nI_clamp (by omega)]) (nm_r (nI_1 j) ⟨by decide, nm_r (zh_par z (by omega)) (hw _ hn1)⟩)⟩)
theorem zh_y134inr {post : Int32 → (St2 ⊕ St3) → Prop} {mc ms kc ks n N k N1 : Nat} {x f : Int32} {a a1 up : Nat → Int32} (hn : n < N) (hN : N ≤ 16) (hk7 : k ≤ 7) (hup : ∀ i, i ≤ k → up i = nI (zh_pa n i))
    (hp : post (nI (zh_pa n k)) (.inr (f, upd (zh_sh a n k) (zh_pa n k) x, N, a1, N1))) : ∃ fu, wX6_pushValue_134 post mc ms fu (.inr (x, nI k, nI 0, kc, ks, f, a, N, a1, N1, up, 40)) := by
  refine pk_loop (fun fu j s => wX6_pushValue_134 post mc ms fu (.inr (x, nI k, nI j, kc, ks, f, s, N, a1, N1, up, 40))) (fun j s => s = zh_sh a n j) k 0 a (Nat.zero_le k) rfl ?_ ?_
  · intro fu s hs
    subst hs
    have hb := zh_pa_n n k
    refine pk_le k k (fun _ => ?_) (fun z => absurd z (by omega))
    rw [nI_clamp (show k < 2 ^ 31 by omega), hup k (Nat.le_refl k), nI_clamp (show zh_pa n k < 2 ^ 31 by omega)]
    exact ⟨pk_in k 40 (by omega), pk_in (zh_pa n k) N (by omega), nm_e ⟨pk_in k 40 (by omega), hp⟩⟩
  · intro fu j s hj hs hw
    subst hs
    have hb := zh_pa_n n j
    have hb1 := zh_pa_n n (j + 1)
    refine pk_le k j (fun z => absurd z (by omega)) (fun _ => ?_)
    rw [nI_1 j, nI_clamp (show j < 2 ^ 31 by omega), nI_clamp (show j + 1 < 2 ^ 31 by omega), hup j (by omega), hup (j + 1) (by omega), nI_clamp (show zh_pa n j < 2 ^ 31 by omega), nI_clamp (show zh_pa n (j + 1) < 2 ^ 31 by omega)]
    exact ⟨pk_in j 40 (by omega), pk_in (j + 1) 40 (by omega), pk_in (zh_pa n (j + 1)) N (by omega), pk_in (zh_pa n j) N (by omega), nm_e (nm_e (hw _ rfl))⟩
theorem zh_y102inr {post : Int32 → (St2 ⊕ St3) → Prop} {mc ms kc ks n N k m N1 : Nat} {x f : Int32} {a a1 up : Nat → Int32} (hn : n < N) (hN : N ≤ 16) (hm7 : m ≤ 7) (hH : zh_H a n) (hk : zh_K a x n k) (hm0 : zh_pa n m = 0) (hmp : ∀ j, j < m → 0 < zh_pa n j) (hup : ∀ i, i ≤ m → up i = nI (zh_pa n i))
    (hp : post (nI (zh_pa n k)) (.inr (f, upd (zh_sh a n k) (zh_pa n k) x, N, a1, N1))) : ∃ fu, wX6_pushValue_102 post mc ms fu (.inr (x, nI m, nI 0, nI (0 + 1), kc, ks, f, a, N, a1, N1, up, 40)) := by
  have hkm := zh_km hk hm0
  refine pk_loop (σ := Nat) (fun fu j c => wX6_pushValue_102 post mc ms fu (.inr (x, nI m, nI c, nI (j + 1), kc, ks, f, a, N, a1, N1, up, 40))) (fun j c => c = min j k) m 0 0 (Nat.zero_le m) (show 0 = min 0 k by omega) ?_ ?_
  · intro fu c hc
    have hc1 : c = min m k := hc
    have hc2 : k = c := by omega
    subst hc2
    exact pk_lt m (m + 1) (fun _ => zh_y134inr hn hN (by omega) (fun i hi => hup i (by omega)) hp) (fun z => absurd z (by omega))
  · intro fu j c hj hc hw
    have hc1 : c = min j k := hc
    have hb1 := zh_pa_n n (j + 1)
    refine pk_lt m (j + 1) (fun z => absurd z (by omega)) (fun _ => ?_)
    rw [nI_clamp (show j + 1 < 2 ^ 31 by omega), hup (j + 1) (by omega), nI_clamp (show zh_pa n (j + 1) < 2 ^ 31 by omega)]
    refine ⟨pk_in (j + 1) 40 (by omega), pk_in (zh_pa n (j + 1)) N (by omega), ?_⟩
    by_cases hjk : j < k
    · exact br_f (zh_lo hk hjk) (nm_r (nI_1 c) (nm_r (nI_1 (j + 1)) (hw (c + 1) (show c + 1 = min (j + 1) k by omega))))
    · have h3 := zh_hi hH hk hmp (j - k) (by omega)
      rw [show k + (j - k) + 1 = j + 1 by omega] at h3
      exact br_t h3 (nm_r (nI_1 (j + 1)) (hw c (show c = min (j + 1) k by omega)))
theorem zh_y71inr {post : Int32 → (St2 ⊕ St3) → Prop} {mc ms kc ks n N k N1 : Nat} {x f : Int32} {a a1 : Nat → Int32} (hn : n < N) (hN : N ≤ 16) (hn7 : n ≤ 7) (hH : zh_H a n) (hk : zh_K a x n k)
    (hp : post (nI (zh_pa n k)) (.inr (f, upd (zh_sh a n k) (zh_pa n k) x, N, a1, N1))) : ∃ fu, wX6_pushValue_71 post mc ms fu (.inr (x, nI 0, nI n, kc, ks, f, a, N, a1, N1, (fun _ => 0), 40)) := by
  obtain ⟨m, hmn, hm0, hmp⟩ := zh_m n
  refine pk_loop (fun fu j up => wX6_pushValue_71 post mc ms fu (.inr (x, nI j, nI (zh_pa n j), kc, ks, f, a, N, a1, N1, up, 40))) (fun j up => ∀ i, up i = if i < j then nI (zh_pa n i) else 0) m 0 (fun _ => 0) (Nat.zero_le m) (fun i => (if_neg (Nat.not_lt_zero i)).symm) ?_ ?_
  · intro fu up hu
    have hu1 : ∀ i, up i = if i < m then nI (zh_pa n i) else 0 := hu
    have hup : ∀ i, i ≤ m → up i = nI (zh_pa n i) := by
      intro i hi
      rw [hu1 i]
      by_cases e : i < m
      · exact if_pos e
      · have e2 : i = m := by omega
        rw [if_neg e, e2, hm0]
        rfl
    exact pk_le (zh_pa n m) 0 (fun _ => zh_y102inr hn hN (by omega) hH hk hm0 hmp hup hp) (fun z => absurd z (by omega))
  · intro fu j up hj hu hw
    have hu1 : ∀ i, up i = if i < j then nI (zh_pa n i) else 0 := hu
    have hb := zh_pa_n n j
    have hpos := hmp j hj
    have hn1 : ∀ i, upd up j (nI (zh_pa n j)) i = if i < j + 1 then nI (zh_pa n i) else 0 := by
      intro i
      by_cases e : i = j
      · rw [e, pk_us, if_pos (by omega)]
      · rw [pk_un e, hu1 i]
        by_cases e2 : i < j
        · rw [if_pos e2, if_pos (by omega)]
        · rw [if_neg e2, if_neg (by omega)]
    exact pk_le (zh_pa n j) 0 (fun z => absurd z (by omega)) (fun z => ⟨pk_in j 40 (by omega), nm_r (e' := upd up j (nI (zh_pa n j))) (by rw [nI_clamp (by omega)]) (nm_r (nI_1 j) ⟨by decide, nm_r (zh_par z (by omega)) (hw _ hn1)⟩)⟩)
theorem zh_y25 {post : Int32 → (St2 ⊕ St3) → Prop} {mc ms kc ks n N : Nat} {x f : Int32} {a : Nat → Int32} (hn : n < N) (hN : N ≤ 16) (H : wX6_pushValue_53_2 post mc ms x (nI n) kc ks f (zh_w a n) N a n) :
    ∃ fu, wX6_pushValue_25 post mc ms x (nI n) kc ks f n N fu (nI 0) a (fun _ => 0) := by
  refine pk_loop (fun fu i s => wX6_pushValue_25 post mc ms x (nI n) kc ks f n N fu (nI i) a s) (fun i s => s = zh_w a i) n 0 (fun _ => 0) (Nat.zero_le n) (zh_w0 a).symm ?_ ?_
  · intro fu s hs
    subst hs
    exact pk_le n n (fun _ => H) (fun z => absurd z (by omega))
  · intro fu i s hi hs hw
    subst hs
    exact pk_le n i (fun z => absurd z (by omega)) (fun _ => ⟨pk_in i n hi, pk_in i N (by omega), nm_r (e' := zh_w a (i + 1)) (by rw [nI_clamp (by omega), zh_ws]) (nm_r (nI_1 i) (hw _ rfl))⟩)
theorem zh_X6r {post : Int32 → (St2 ⊕ St3) → Prop} {mc ms n N k : Nat} {x : Int32} {a : Nat → Int32} (hn : n < N) (hN : N ≤ 16) (hn7 : n ≤ 7) (hmc : 2 ≤ mc) (hms : 55 ≤ ms) (hH : zh_H a n) (hk : zh_K a x n k)
    (hp : post (nI (zh_pa n k)) (.inl (nI (n + 1), upd (zh_sh a n k) (zh_pa n k) x, N))) : wpX6_pushValue post mc ms (nI n, a, N) x :=
  pk_eq n N (fun z => absurd z (by omega)) (fun _ => nm_r (nI_1 n) ⟨by omega, by omega, zh_y71inl hn hN hn7 hH hk hp⟩)
theorem zh_X6g {post : Int32 → (St2 ⊕ St3) → Prop} {mc ms n k : Nat} {x : Int32} {a : Nat → Int32} (hn7 : n ≤ 7) (hmc : 2 ≤ mc) (hms : 55 ≤ ms) (hH : zh_H a n) (hk : zh_K (zh_w a n) x n k)
    (hp : post (nI (zh_pa n k)) (.inr (nI (n + 1), upd (zh_sh (zh_w a n) n k) (zh_pa n k) x, 2 * n + 1, a, n))) : wpX6_pushValue post mc ms (nI n, a, n) x := by
  have e : 2 * nI n + 1 = nI (2 * n + 1) := by
    rw [show 2 * nI n = nI (2 * n) from pk_mul 2 n, nI_1]
  refine br_t rfl ⟨by rw [e]; exact nI_pos (by omega), nm_r (e' := 2 * n + 1) (by rw [e, nI_clamp (by omega)]) ⟨by omega, by omega, by omega, zh_y25 (by omega) (by omega) ?_⟩⟩
  exact nm_r (nI_1 n) ⟨by omega, by omega, zh_y71inr (by omega) (by omega) hn7 (zh_wH hH) hk hp⟩
end
section
theorem zh_189 {post : Int32 → St0 → Prop} {mc ms kc ks N : Nat} {f g : Int32} {a : Nat → Int32} (hN : N ≤ 16) (hp : post 1 ()) : ∃ fu, wL_lawOf_189 post mc ms kc ks f a N g a N fu (nI 0) :=
  pk_loop (σ := Unit) (fun fu i _ => wL_lawOf_189 post mc ms kc ks f a N g a N fu (nI i)) (fun _ _ => True) N 0 () (Nat.zero_le N) trivial
    (fun _ _ _ => pk_le N N (fun _ => hp) (fun z => absurd z (by omega)))
    (fun _ i _ hi _ hw => pk_le N i (fun z => absurd z (by omega)) (fun _ => ⟨pk_in i N hi, pk_in i N hi, br_t rfl (nm_r (nI_1 i) (hw () trivial))⟩))
theorem zh_68 {post : Int32 → St0 → Prop} {mc ms kc ks i N : Nat} {J : Int32 → (Nat → Int32) → (Nat → Int32) → Prop} {x0 x3 x4 x8 z0 : Int32} {s : Nat → Int32} (hi : i < N) (hN : N ≤ 16)
    (hJ : ∀ d, d < 16 → J (nI (i + 1)) (upd s i (z0 + nI d)) (upd s i (z0 + nI d))) : wL_lawOf_68 post mc ms J x0 x3 x4 x8 (nI i) z0 kc ks s N s N := by
  obtain ⟨d, hd, e⟩ := pk_andE ((x0.toUInt32 >>> ((4 * nI i).toUInt32 &&& Int32.toUInt32 31)).toInt32) (m := 15) 4 (by decide)
  unfold wL_lawOf_68
  rw [e, nI_clamp (show i < 2 ^ 31 by omega)]
  exact nm_e ⟨pk_in i N hi, nm_e ⟨pk_in i N hi, nm_e (nm_r (nI_1 i) (hJ d hd))⟩⟩
theorem zh_42 {post : Int32 → St0 → Prop} {n N : Nat} {x0 x3 x8 : Int32} (hn7 : n ≤ 7) (hN : N = n ∨ N = 8) (h1 : -1073741824 ≤ x8.toInt) (h2 : x8.toInt < 1073741824) (hp : post 1 ()) :
    ∃ fu, wL_lawOf_42 post 30 480 x0 x3 (nI n) x8 (0 + 2) (0 + N + N) N N fu (nI 0) (fun _ => 0) (fun _ => 0) := by
  refine pk_loop (fun fu i s => wL_lawOf_42 post 30 480 x0 x3 (nI n) x8 (0 + 2) (0 + N + N) N N fu (nI i) s s) (fun i s => zh_I x8.toInt i s) n 0 (fun _ => 0) (Nat.zero_le n) (zh_I0 _ _) ?_ ?_
  · intro fu s hs
    have hH : zh_H s n := hs.2
    refine pk_le n n (fun _ => ⟨by omega, by omega, by omega, by omega, nm_e ⟨1, 15, by omega, by omega, ?_⟩⟩) (fun z => absurd z (by omega))
    rcases Nat.lt_or_ge n N with hlt | hge
    · obtain ⟨k, hk⟩ := zh_exK s ((x8 + (x3 &&& 63)) - 4) n
      exact zh_X5r hlt (by omega) hk ⟨2, 55, by omega, by omega, zh_X6r hlt (by omega) hn7 (by omega) (by omega) hH hk (br_t rfl (br_t rfl (br_t rfl (zh_189 (by omega) hp))))⟩
    · have e : n = N := by omega
      subst e
      obtain ⟨k, hk⟩ := zh_exK (zh_w s n) ((x8 + (x3 &&& 63)) - 4) n
      exact zh_X5g hn7 (by omega) (by omega) hk ⟨2, 55, by omega, by omega, zh_X6g hn7 (by omega) (by omega) hH hk (br_t rfl (br_t rfl (br_t rfl (zh_189 (by omega) hp))))⟩
  · intro fu i s hi hs hw
    refine pk_le n i (fun z => absurd z (by omega)) (fun _ => ?_)
    refine pk_eq i 0 (fun z => ?_) (fun z => ⟨by decide, ?_⟩)
    · subst z
      exact zh_68 (by omega) (by omega) (fun d hd => hw _ (zh_I1 hd h1 h2))
    · have e := zh_par (i := i) (by omega) (by omega)
      rw [e, nI_clamp (show (i - 1) / 2 < 2 ^ 31 by omega)]
      exact ⟨pk_in ((i - 1) / 2) N (by omega), zh_68 (by omega) (by omega) (fun d hd => hw _ (zh_Is hd h1 h2 (by omega) (by omega) hs))⟩
theorem zh_20 {post : Int32 → St0 → Prop} {n N : Nat} {x0 x1 x3 : Int32} (hn7 : n ≤ 7) (hN : N = n ∨ N = 8) (hp : post 1 ()) : wL_lawOf_20 post 30 480 x0 x1 x3 (nI n) (nI N) 0 0 := by
  unfold wL_lawOf_20
  rw [nI_clamp (show N < 2 ^ 31 by omega)]
  exact ⟨nI_pos (by omega), nm_e ⟨by omega, by omega, by omega, nI_pos (by omega), nm_e ⟨by omega, by omega, by omega, nm_e (zh_42 hn7 hN (zh_base x1).1 (zh_base x1).2 hp)⟩⟩⟩
theorem zh_lawOf {post : Int32 → St0 → Prop} {p0 p1 p2 p3 : Int32} (hp : post 1 ()) : wpL_lawOf post 30 480 () p0 p1 p2 p3 := by
  obtain ⟨n, hn, e⟩ := pk_andE p2 (m := 7) 3 (by decide)
  exact nm_r e (br_c (fun _ => zh_20 (by omega) (Or.inl rfl) hp) (fun _ => zh_20 (N := 8) (by omega) (Or.inr rfl) hp))
theorem zh_cell {post : Int32 → Prop} {L k : Nat} {xs : Nat → Int32} {u : St0} (hL : L ≤ 4) (hk : k ≤ 4) (hp : ∀ r, post r) : wpL_cellAt post L xs u (nI k) :=
  pk_le L k (fun _ => hp _) (fun z => ⟨pk_in k L z, hp _⟩)
theorem i_vc (xs : Nat → Int32) (L : Nat) (hL : L ≤ 4) : wpL_law (fun r => r = 1) L xs :=
  zh_cell (k := 0) hL (by omega) (fun _ => zh_cell (k := 1) hL (by omega) (fun _ => zh_cell (k := 2) hL (by omega) (fun _ => zh_cell (k := 3) hL (by omega) (fun _ => ⟨30, 480, by omega, by omega, zh_lawOf rfl⟩))))
end
