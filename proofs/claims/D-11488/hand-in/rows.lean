section
section
variable {post : Int32 → St2 → Prop} {pl : Int32} {a1 a2 a3 a4 a5 a6 a7 a8 a9 a10 a11 a12 a13 a14 a15 a16 a17 : Nat → Int32}
/-- feed with room -/
theorem sd_feed {m : Nat} {x : Int32} (hm : m < 96) (H : post (nI (m + 1)) (nI (m + 1), pl, upd a1 m (x &&& 255), a2, a3, a4, a5, a6, a7, a8, a9, a10, a11, a12, a13, a14, a15, a16, a17)) :
    wpX_feed post (nI m, pl, a1, a2, a3, a4, a5, a6, a7, a8, a9, a10, a11, a12, a13, a14, a15, a16, a17) x :=
  pk_lt m 96 (fun _ => ⟨pk_in m 96 hm, nm_r (by rw [nI_clamp (by omega)]) (nm_r (nI_1 m) H)⟩) (fun z => absurd z (by omega))
/-- insert's loop: the places above k move up by one -/
theorem sd_insLoop {m k : Nat} {b : Int32} (hm : m < 96) (hk : k ≤ m)
    (H : ∀ s : Nat → Int32, (∀ j, j < k → s j = a1 j) → s k = b &&& 255 → (∀ j, k < j → j ≤ m → s j = a1 (j - 1)) → post (nI (m + 1)) (nI (m + 1), pl, s, a2, a3, a4, a5, a6, a7, a8, a9, a10, a11, a12, a13, a14, a15, a16, a17)) :
    ∃ n, wX_insert_31 post (nI k) b (nI m) pl n (nI m) a1 a2 a3 a4 a5 a6 a7 a8 a9 a10 a11 a12 a13 a14 a15 a16 a17 := by
  have D := pk_loopD (fun n i s => wX_insert_31 post (nI k) b (nI m) pl n (nI (k + i)) s a2 a3 a4 a5 a6 a7 a8 a9 a10 a11 a12 a13 a14 a15 a16 a17)
    (fun i s => k + i ≤ m ∧ (∀ j, j ≤ k + i → s j = a1 j) ∧ (∀ j, k + i < j → j ≤ m → s j = a1 (j - 1))) ?_ ?_ (m - k) a1
    ⟨by omega, fun _ _ => rfl, fun j h1 h2 => absurd h1 (by omega)⟩
  · have D' : wX_insert_31 post (nI k) b (nI m) pl (m - k + 1) (nI (k + (m - k))) a1 a2 a3 a4 a5 a6 a7 a8 a9 a10 a11 a12 a13 a14 a15 a16 a17 := D
    rw [show k + (m - k) = m by omega] at D'
    exact ⟨m - k + 1, D'⟩
  · intro n s h
    obtain ⟨h1, h2, h3⟩ := h
    refine pk_le k k (fun _ => ⟨pk_in k 96 (by omega), nm_r (e' := upd s k (b &&& 255)) (by rw [nI_clamp (by omega)]) (nm_r (nI_1 m) (H _ ?_ pk_us ?_))⟩) (fun z => absurd z (by omega))
    · intro j hj
      rw [pk_un (show j ≠ k by omega)]
      exact h2 j (by omega)
    · intro j hj hjm
      rw [pk_un (show j ≠ k by omega)]
      exact h3 j (by omega) hjm
  · intro n i s h hw
    obtain ⟨h1, h2, h3⟩ := h
    have hw' : ∀ s' : Nat → Int32, (k + i ≤ m ∧ (∀ j, j ≤ k + i → s' j = a1 j) ∧ (∀ j, k + i < j → j ≤ m → s' j = a1 (j - 1))) → wX_insert_31 post (nI k) b (nI m) pl n (nI (k + i)) s' a2 a3 a4 a5 a6 a7 a8 a9 a10 a11 a12 a13 a14 a15 a16 a17 := hw
    refine pk_le (k + i + 1) k (fun z => absurd z (by omega)) (fun _ => ⟨pk_in (k + i) 96 (by omega) (nI_pred (k + i)), pk_in (k + i + 1) 96 (by omega), nm_r (e' := upd s (k + i + 1) (s (k + i))) ?_ (nm_r (pk_m1 (k + i)) (hw' _ ⟨by omega, ?_, ?_⟩))⟩)
    · show upd s (nI (k + i + 1)).toNatClampNeg (s (nI (k + i + 1) - 1).toNatClampNeg) = _
      rw [nI_pred, nI_clamp (show k + i + 1 < 2 ^ 31 by omega), nI_clamp (show k + i < 2 ^ 31 by omega)]
    · intro j hj
      rw [pk_un (show j ≠ k + i + 1 by omega)]
      exact h2 j (by omega)
    · intro j hj hjm
      by_cases e : j = k + i + 1
      · rw [e, pk_us, h2 (k + i) (by omega), show k + i + 1 - 1 = k + i by omega]
      · rw [pk_un e]
        exact h3 j (by omega) hjm
/-- insert at a good place -/
theorem sd_ins {m k : Nat} {b : Int32} (hm : m < 96) (hk : k ≤ m)
    (H : ∀ s : Nat → Int32, (∀ j, j < k → s j = a1 j) → s k = b &&& 255 → (∀ j, k < j → j ≤ m → s j = a1 (j - 1)) → post (nI (m + 1)) (nI (m + 1), pl, s, a2, a3, a4, a5, a6, a7, a8, a9, a10, a11, a12, a13, a14, a15, a16, a17)) :
    wpX_insert post (nI m, pl, a1, a2, a3, a4, a5, a6, a7, a8, a9, a10, a11, a12, a13, a14, a15, a16, a17) (nI k) b :=
  br_f (nI_pos (by omega)) (br_t (nI_le hk (by omega)) (br_t (nI_lt (b := 96) hm (by decide)) (sd_insLoop hm hk H)))
/-- insert at a bad place -/
theorem sd_insBad {st p b : Int32} (h : p < 0 ∨ st < p) (H : post (-5) (st, pl, a1, a2, a3, a4, a5, a6, a7, a8, a9, a10, a11, a12, a13, a14, a15, a16, a17)) : wpX_insert post (st, pl, a1, a2, a3, a4, a5, a6, a7, a8, a9, a10, a11, a12, a13, a14, a15, a16, a17) p b :=
  br_c (fun _ => H) (fun z => br_f (Int32.not_le.mpr (h.resolve_left z)) H)
/-- cut's loop: the places from f on move down by n -/
theorem sd_cutLoop {m f n : Nat} (hm : m ≤ 96) (hf : f + n ≤ m)
    (H : ∀ s : Nat → Int32, (∀ j, j < f → s j = a1 j) → (∀ j, f ≤ j → j < m - n → s j = a1 (j + n)) → post (nI (m - n)) (nI (m - n), pl, s, a2, a3, a4, a5, a6, a7, a8, a9, a10, a11, a12, a13, a14, a15, a16, a17)) :
    ∃ fu, wX_cut_31 post (nI n) (nI m) pl fu (nI f) a1 a2 a3 a4 a5 a6 a7 a8 a9 a10 a11 a12 a13 a14 a15 a16 a17 := by
  refine pk_loop (fun fu i s => wX_cut_31 post (nI n) (nI m) pl fu (nI i) s a2 a3 a4 a5 a6 a7 a8 a9 a10 a11 a12 a13 a14 a15 a16 a17)
    (fun i s => f ≤ i ∧ (∀ j, j < f → s j = a1 j) ∧ (∀ j, f ≤ j → j < i → s j = a1 (j + n)) ∧ (∀ j, i ≤ j → s j = a1 j)) (m - n) f a1 (by omega)
    ⟨by omega, fun _ _ => rfl, fun j h1 h2 => absurd h2 (by omega), fun _ _ => rfl⟩ ?_ ?_
  · intro fu s h
    obtain ⟨h1, h2, h3, h4⟩ := h
    exact pk_le (m - n) (m - n) (fun _ => nm_r (pk_sub (by omega)) (H s h2 h3)) (fun z => absurd z (by omega)) (pk_sub (by omega))
  · intro fu i s hi h hw
    obtain ⟨h1, h2, h3, h4⟩ := h
    have hw' : ∀ s' : Nat → Int32, (f ≤ i + 1 ∧ (∀ j, j < f → s' j = a1 j) ∧ (∀ j, f ≤ j → j < i + 1 → s' j = a1 (j + n)) ∧ (∀ j, i + 1 ≤ j → s' j = a1 j)) → wX_cut_31 post (nI n) (nI m) pl fu (nI (i + 1)) s' a2 a3 a4 a5 a6 a7 a8 a9 a10 a11 a12 a13 a14 a15 a16 a17 := hw
    refine pk_le (m - n) i (fun z => absurd z (by omega)) (fun _ => ⟨pk_in (i + n) 96 (by omega) (nI_add i n), pk_in i 96 (by omega), nm_r (e' := upd s i (a1 (i + n))) ?_ (nm_r (nI_1 i) (hw' _ ⟨by omega, ?_, ?_, ?_⟩))⟩) (pk_sub (by omega))
    · rw [nI_add, nI_clamp (show i + n < 2 ^ 31 by omega), nI_clamp (show i < 2 ^ 31 by omega), h4 (i + n) (by omega)]
    · intro j hj
      rw [pk_un (show j ≠ i by omega)]
      exact h2 j hj
    · intro j hj hji
      by_cases e : j = i
      · rw [e, pk_us]
      · rw [pk_un e]
        exact h3 j hj (by omega)
    · intro j hj
      rw [pk_un (show j ≠ i by omega)]
      exact h4 j (by omega)
/-- cut of places that are there -/
theorem sd_cut {m f n : Nat} (hm : m ≤ 96) (hf : f + n ≤ m)
    (H : ∀ s : Nat → Int32, (∀ j, j < f → s j = a1 j) → (∀ j, f ≤ j → j < m - n → s j = a1 (j + n)) → post (nI (m - n)) (nI (m - n), pl, s, a2, a3, a4, a5, a6, a7, a8, a9, a10, a11, a12, a13, a14, a15, a16, a17)) :
    wpX_cut post (nI m, pl, a1, a2, a3, a4, a5, a6, a7, a8, a9, a10, a11, a12, a13, a14, a15, a16, a17) (nI f) (nI n) :=
  br_f (nI_pos (by omega)) (br_f (nI_pos (by omega)) (br_f (nI_nlt (by omega) (by omega)) (br_t (by rw [pk_sub (show f ≤ m by omega)]; exact nI_le (by omega) (by omega)) (sd_cutLoop hm hf H))))
/-- cut of others -/
theorem sd_cutBad {st p q : Int32} (h : p < 0 ∨ q < 0 ∨ st < p ∨ st - p < q) (H : post (-5) (st, pl, a1, a2, a3, a4, a5, a6, a7, a8, a9, a10, a11, a12, a13, a14, a15, a16, a17)) : wpX_cut post (st, pl, a1, a2, a3, a4, a5, a6, a7, a8, a9, a10, a11, a12, a13, a14, a15, a16, a17) p q :=
  br_c (fun _ => H) (fun z1 => br_c (fun _ => H) (fun z2 => br_c (fun _ => H) (fun z3 => br_f (Int32.not_le.mpr (((h.resolve_left z1).resolve_left z2).resolve_left z3)) H)))
end
section
variable {post : Int32 → Prop} {pl : Int32} {a1 a2 a3 a4 a5 a6 a7 a8 a9 a10 a11 a12 a13 a14 a15 a16 a17 : Nat → Int32}
/-- one byte of the stage -/
theorem sd_byte {m k : Nat} (hk : k < 96) (hm : m ≤ 96) (h1 : k < m → post (a1 k)) (h2 : m ≤ k → post (-5)) :
    wpX_stageByte post (nI m, pl, a1, a2, a3, a4, a5, a6, a7, a8, a9, a10, a11, a12, a13, a14, a15, a16, a17) (nI k) :=
  br_f (nI_pos (by omega)) (pk_lt k m (fun z => ⟨pk_in k 96 hk, by rw [nI_clamp (by omega)]; exact h1 z⟩) (fun z => h2 z))
end
end
section
/-- what the law's own 'mixed' answers -/
def sd_mix (i x y p b : Int32) : Int32 := if i = p then b &&& 255 else if (if i ≤ p then i else i - 1) = 0 then x &&& 255 else y &&& 255
def sd_zero (o f n : Int32) : Int32 := if o = 0 then 0 else if f = 0 then n else 0
def sd_one (o f n : Int32) : Int32 := if o = 0 then 1 else if 1 < f then 1 else 1 + n
def sd_place (i p : Int32) : Int32 := if i = 0 then 5 else p
theorem sd_mixed {post : Int32 → Prop} {i x y p b : Int32} (h : post (sd_mix i x y p b)) : wpL_mixed post () i x y p b := by
  unfold sd_mix at h
  unfold wpL_mixed wL_mixed_24
  by_cases z : i = p
  · rw [if_pos z] at h
    exact br_t z h
  · rw [if_neg z] at h
    by_cases w : i ≤ p
    · rw [if_pos w] at h
      by_cases v : i = 0
      · rw [if_pos v] at h
        exact br_f z (br_t w (br_t v h))
      · rw [if_neg v] at h
        exact br_f z (br_t w (br_f v h))
    · rw [if_neg w] at h
      by_cases v : i - 1 = 0
      · rw [if_pos v] at h
        exact br_f z (br_f w (br_t v h))
      · rw [if_neg v] at h
        exact br_f z (br_f w (br_f v h))
/-- 'mixed' over naturals -/
theorem sd_mixN {i k : Nat} (x y b : Int32) (hi : i < 2 ^ 31) (hk : k < 2 ^ 31) :
    sd_mix (nI i) x y (nI k) b = if i = k then b &&& 255 else if (if i ≤ k then i else i - 1) = 0 then x &&& 255 else y &&& 255 := by
  unfold sd_mix
  by_cases z : i = k
  · rw [if_pos z, if_pos (show nI i = nI k by rw [z])]
  · rw [if_neg z, if_neg (show ¬ nI i = nI k from fun e => z ((nI_eq hi hk).mp e))]
    by_cases w : i ≤ k
    · rw [if_pos w, if_pos (nI_le w hk)]
      by_cases v : i = 0
      · rw [if_pos v, if_pos (show nI i = 0 by rw [v, nI_0])]
      · rw [if_neg v, if_neg (nI_ne0 (show 0 < i by omega) hi)]
    · rw [if_neg w, if_neg (nI_ge (show k < i by omega) hi)]
      have e : nI i - 1 = nI (i - 1) := by
        obtain ⟨c, rfl⟩ : ∃ c, i = c + 1 := ⟨i - 1, by omega⟩
        exact nI_pred c
      rw [e]
      by_cases v : i - 1 = 0
      · rw [if_pos v, if_pos (show nI (i - 1) = 0 by rw [v, nI_0])]
      · rw [if_neg v, if_neg (nI_ne0 (show 0 < i - 1 by omega) (by omega))]
theorem sd_zero0 (f n : Int32) : sd_zero 0 f n = nI 0 := if_pos rfl
theorem sd_one0 (f n : Int32) : sd_one 0 f n = nI 1 := if_pos rfl
theorem sd_place0 (p : Int32) : sd_place 0 p = nI 5 := if_pos rfl
theorem sd_place1 (p : Int32) : sd_place 1 p = p := if_neg (by decide)
theorem sd_zeroN {f : Nat} (n : Nat) (hf : f < 2 ^ 31) : sd_zero 1 (nI f) (nI n) = nI (if f = 0 then n else 0) := by
  unfold sd_zero
  rw [if_neg (show ¬ (1 : Int32) = 0 by decide)]
  by_cases e : f = 0
  · rw [if_pos e, if_pos (show nI f = 0 by rw [e, nI_0])]
  · rw [if_neg e, if_neg (nI_ne0 (show 0 < f by omega) hf), nI_0]
theorem sd_oneN {f : Nat} (n : Nat) (hf : f < 2 ^ 31) : sd_one 1 (nI f) (nI n) = nI (if 1 < f then 1 else 1 + n) := by
  unfold sd_one
  rw [if_neg (show ¬ (1 : Int32) = 0 by decide)]
  by_cases e : 1 < f
  · rw [if_pos e, if_pos (show (1 : Int32) < nI f from nI_lt (a := 1) e hf)]
    rfl
  · rw [if_neg e, if_neg (show ¬ (1 : Int32) < nI f from nI_nlt (b := f) (a := 1) (by omega) (by decide)), ← nI_add]
    rfl
section
variable {post : Int32 → St0 → Prop} {mc ms kc ks : Nat} {pl : Int32} {a1 a2 a3 a4 a5 a6 a7 a8 a9 a10 a11 a12 a13 a14 a15 a16 a17 : Nat → Int32}
theorem sd_248 {m : Nat} {d0 d1 : Int32} (hm : m ≤ 96) (h0 : 0 < m → a1 0 = d0) (h0' : m ≤ 0 → d0 = -5) (h1 : 1 < m → a1 1 = d1) (h1' : m ≤ 1 → d1 = -5) (hp : post 1 ()) :
    wL_lawOf_248 post mc ms (nI m) d0 d1 kc ks (nI m) pl a1 a2 a3 a4 a5 a6 a7 a8 a9 a10 a11 a12 a13 a14 a15 a16 a17 := by
  have T : wpX_stageByte (fun r => (r = d1 → post 1 ()) ∧ (¬ r = d1 → post 0 ())) (nI m, pl, a1, a2, a3, a4, a5, a6, a7, a8, a9, a10, a11, a12, a13, a14, a15, a16, a17) 1 :=
    sd_byte (k := 1) (by decide) hm (fun z => br_t (h1 z) hp) (fun z => br_t (h1' z).symm hp)
  unfold wL_lawOf_248 wpX_stageLength
  exact br_t rfl (sd_byte (k := 0) (by decide) hm (fun z => br_t (h0 z) T) (fun z => br_t (h0' z).symm T))
theorem sd_225 {m : Nat} {x y b o p d0 : Int32} (hm : m ≤ 96) (h0 : 0 < m → a1 0 = d0) (h0' : m ≤ 0 → d0 = -5) (h1 : 1 < m → a1 1 = sd_mix o x y p b) (hp : post 1 ()) :
    wL_lawOf_225 post mc ms x y b (nI m) o p d0 kc ks (nI m) pl a1 a2 a3 a4 a5 a6 a7 a8 a9 a10 a11 a12 a13 a14 a15 a16 a17 :=
  pk_le m 1 (fun e => sd_248 hm h0 h0' (fun z => absurd z (by omega)) (fun _ => rfl) hp) (fun e => sd_mixed (sd_248 hm h0 h0' h1 (fun z => absurd z (by omega)) hp))
theorem sd_203 {m : Nat} {x y b z o p : Int32} (hm : m ≤ 96) (h0 : 0 < m → a1 0 = sd_mix z x y p b) (h1 : 1 < m → a1 1 = sd_mix o x y p b) (hp : post 1 ()) :
    wL_lawOf_203 post mc ms x y b (nI m) z o p kc ks (nI m) pl a1 a2 a3 a4 a5 a6 a7 a8 a9 a10 a11 a12 a13 a14 a15 a16 a17 :=
  pk_le m 0 (fun e => sd_225 hm (fun z => absurd z (by omega)) (fun _ => rfl) h1 hp) (fun e => sd_mixed (sd_225 hm h0 (fun z => absurd z (by omega)) h1 hp))
theorem sd_191 {x0 x1 x2 x3 x7 x10 x11 z0 st : Int32} (H : wL_lawOf_203 post mc ms x0 x1 x3 x10 x11 z0 (sd_place x7 x2) kc ks st pl a1 a2 a3 a4 a5 a6 a7 a8 a9 a10 a11 a12 a13 a14 a15 a16 a17) :
    wL_lawOf_191 post mc ms x0 x1 x2 x3 x7 x10 x11 z0 kc ks st pl a1 a2 a3 a4 a5 a6 a7 a8 a9 a10 a11 a12 a13 a14 a15 a16 a17 := by
  unfold sd_place at H
  by_cases e : x7 = 0
  · rw [if_pos e] at H
    exact br_t e H
  · rw [if_neg e] at H
    exact br_f e H
theorem sd_170 {x0 x1 x2 x3 x4 x5 x7 x9 x10 z0 st : Int32} (H : wL_lawOf_203 post mc ms x0 x1 x3 x10 z0 (sd_one x9 x4 x5) (sd_place x7 x2) kc ks st pl a1 a2 a3 a4 a5 a6 a7 a8 a9 a10 a11 a12 a13 a14 a15 a16 a17) :
    wL_lawOf_170 post mc ms x0 x1 x2 x3 x4 x5 x7 x9 x10 z0 kc ks st pl a1 a2 a3 a4 a5 a6 a7 a8 a9 a10 a11 a12 a13 a14 a15 a16 a17 := by
  have A := sd_191 H
  unfold sd_one at A
  by_cases e : x9 = 0
  · rw [if_pos e] at A
    exact br_t e A
  · rw [if_neg e] at A
    by_cases g : 1 < x4
    · rw [if_pos g] at A
      exact br_f e (br_t g A)
    · rw [if_neg g] at A
      exact br_f e (br_f g A)
theorem sd_152 {x0 x1 x2 x3 x4 x5 x7 x9 z0 st : Int32} (H : wL_lawOf_203 post mc ms x0 x1 x3 z0 (sd_zero x9 x4 x5) (sd_one x9 x4 x5) (sd_place x7 x2) kc ks st pl a1 a2 a3 a4 a5 a6 a7 a8 a9 a10 a11 a12 a13 a14 a15 a16 a17) :
    wL_lawOf_152 post mc ms x0 x1 x2 x3 x4 x5 x7 x9 z0 kc ks st pl a1 a2 a3 a4 a5 a6 a7 a8 a9 a10 a11 a12 a13 a14 a15 a16 a17 := by
  have A := sd_170 H
  unfold sd_zero at A
  by_cases e : x9 = 0
  · rw [if_pos e] at A
    exact br_t e A
  · rw [if_neg e] at A
    by_cases g : x4 = 0
    · rw [if_pos g] at A
      exact br_f e (br_t g A)
    · rw [if_neg g] at A
      exact br_f e (br_f g A)
/-- the cut is refused -/
theorem sd_106n {m : Nat} {x0 x1 x2 x3 x4 x5 x7 : Int32} (hm : m ≤ 96) (hV : ∀ i, i < m → a1 i = sd_mix (nI i) x0 x1 (sd_place x7 x2) x3) (hp : post 1 ())
    (h : x4 < 0 ∨ x5 < 0 ∨ nI m < x4 ∨ nI m - x4 < x5) :
    wL_lawOf_106 post mc ms x0 x1 x2 x3 x4 x5 x7 (nI m) 0 kc ks (nI m) pl a1 a2 a3 a4 a5 a6 a7 a8 a9 a10 a11 a12 a13 a14 a15 a16 a17 := by
  unfold wL_lawOf_106
  refine sd_cutBad h (br_t rfl (br_t rfl (br_t rfl (sd_152 (sd_203 hm (fun z => ?_) (fun z => ?_) hp)))))
  · rw [sd_zero0]
    exact hV 0 z
  · rw [sd_one0]
    exact hV 1 z
/-- the cut is done -/
theorem sd_106y {m f n : Nat} {x0 x1 x2 x3 x7 : Int32} (hm : m ≤ 96) (hV : ∀ i, i < m → a1 i = sd_mix (nI i) x0 x1 (sd_place x7 x2) x3) (hp : post 1 ())
    (hf : f + n ≤ m) :
    wL_lawOf_106 post mc ms x0 x1 x2 x3 (nI f) (nI n) x7 (nI m) 1 kc ks (nI m) pl a1 a2 a3 a4 a5 a6 a7 a8 a9 a10 a11 a12 a13 a14 a15 a16 a17 := by
  unfold wL_lawOf_106
  refine sd_cut hm hf (fun s h1 h2 => ?_)
  have A : wL_lawOf_152 post mc ms x0 x1 x2 x3 (nI f) (nI n) x7 1 (nI (m - n)) kc ks (nI (m - n)) pl s a2 a3 a4 a5 a6 a7 a8 a9 a10 a11 a12 a13 a14 a15 a16 a17 := by
    refine sd_152 (sd_203 (by omega) (fun z => ?_) (fun z => ?_) hp)
    · rw [sd_zeroN n (by omega)]
      by_cases e : f = 0
      · rw [if_pos e, h2 0 (by omega) z, Nat.zero_add]
        exact hV n (by omega)
      · rw [if_neg e, h1 0 (by omega)]
        exact hV 0 (by omega)
    · rw [sd_oneN n (by omega)]
      by_cases e : 1 < f
      · rw [if_pos e, h1 1 e]
        exact hV 1 (by omega)
      · rw [if_neg e, h2 1 (by omega) z]
        exact hV (1 + n) (by omega)
  have E : nI m - nI n = nI (m - n) := pk_sub (by omega)
  refine br_f (by decide) (br_t E.symm (br_f (by decide) ?_))
  rw [E]
  exact A
/-- behind the insertion -/
theorem sd_69 {m : Nat} {x0 x1 x2 x3 x4 x5 x7 z0 : Int32} (hm : m ≤ 96) (hV : ∀ i, i < m → a1 i = sd_mix (nI i) x0 x1 (sd_place x7 x2) x3) (hp : post 1 ()) :
    wL_lawOf_69 post mc ms x0 x1 x2 x3 x4 x5 x7 (nI m) z0 z0 kc ks (nI m) pl a1 a2 a3 a4 a5 a6 a7 a8 a9 a10 a11 a12 a13 a14 a15 a16 a17 := by
  have B : (x4 < 0 ∨ x5 < 0 ∨ nI m < x4 ∨ nI m - x4 < x5) → wL_lawOf_105 post mc ms x0 x1 x2 x3 x4 x5 x7 (nI m) kc ks (nI m) pl a1 a2 a3 a4 a5 a6 a7 a8 a9 a10 a11 a12 a13 a14 a15 a16 a17 := fun h => sd_106n hm hV hp h
  unfold wL_lawOf_69
  refine br_t rfl (br_c (fun h => B (Or.inl h)) (fun h1 => br_c (fun h => B (Or.inr (Or.inl h))) (fun h2 => br_c (fun h => B (Or.inr (Or.inr (Or.inl h)))) (fun h3 => br_c (fun h => B (Or.inr (Or.inr (Or.inr h)))) (fun h4 => ?_)))))
  obtain ⟨f, hf, rfl⟩ := nI_of h1
  obtain ⟨n, hn, rfl⟩ := nI_of h2
  rw [nI_ltI (by omega) hf] at h3
  rw [pk_sub (by omega), nI_ltI (by omega) hn] at h4
  exact sd_106y hm hV hp (by omega)
end
end
section
section
variable {post : Int32 → St0 → Prop} {mc ms kc ks : Nat} {pl : Int32} {a1 a2 a3 a4 a5 a6 a7 a8 a9 a10 a11 a12 a13 a14 a15 a16 a17 : Nat → Int32}
/-- the stage after the two feeds -/
def sd_two (x y : Int32) : Nat → Int32 := upd (upd (fun _ => 0) 0 (x &&& 255)) 1 (y &&& 255)
theorem sd_two0 (x y : Int32) : sd_two x y 0 = x &&& 255 := (pk_un (by decide)).trans pk_us
theorem sd_two1 (x y : Int32) : sd_two x y 1 = y &&& 255 := pk_us
/-- the insertion is refused -/
theorem sd_36 {x0 x1 x2 x3 x4 x5 : Int32} (h : x2 < 0 ∨ 2 < x2) (hp : post 1 ()) :
    wL_lawOf_36 post mc ms x0 x1 x2 x3 x4 x5 kc ks (nI 2) pl (sd_two x0 x1) a2 a3 a4 a5 a6 a7 a8 a9 a10 a11 a12 a13 a14 a15 a16 a17 := by
  unfold wL_lawOf_36 wL_lawOf_37
  refine br_t rfl ?_
  unfold wL_lawOf_49
  refine sd_insBad h (br_t rfl (sd_69 (m := 2) (by decide) (fun i hi => ?_) hp))
  rw [sd_place0, sd_mixN x0 x1 x3 (by omega) (by decide)]
  rcases (by omega : i = 0 ∨ i = 1) with rfl | rfl
  · exact sd_two0 x0 x1
  · exact sd_two1 x0 x1
/-- the insertion is done -/
theorem sd_37 {k : Nat} {x0 x1 x3 x4 x5 : Int32} (hk : k ≤ 2) (hp : post 1 ()) :
    wL_lawOf_37 post mc ms x0 x1 (nI k) x3 x4 x5 1 kc ks (nI 2) pl (sd_two x0 x1) a2 a3 a4 a5 a6 a7 a8 a9 a10 a11 a12 a13 a14 a15 a16 a17 := by
  unfold wL_lawOf_37
  refine br_f (by decide) ?_
  unfold wL_lawOf_49
  refine sd_ins (by decide) hk (fun s h1 h2 h3 => br_f (by decide) (sd_69 (m := 3) (by decide) (fun i hi => ?_) hp))
  rw [sd_place1, sd_mixN x0 x1 x3 (by omega) (by omega)]
  by_cases e : i = k
  · rw [if_pos e, e]
    exact h2
  · rw [if_neg e]
    by_cases w : i ≤ k
    · rw [if_pos w, h1 i (by omega)]
      rcases (by omega : i = 0 ∨ i = 1) with rfl | rfl
      · exact sd_two0 x0 x1
      · exact sd_two1 x0 x1
    · rw [if_neg w, h3 i (by omega) (by omega)]
      rcases (by omega : i = 1 ∨ i = 2) with rfl | rfl
      · exact sd_two0 x0 x1
      · exact sd_two1 x0 x1
theorem sd_lawOf {p0 p1 p2 p3 p4 p5 : Int32} (hp : post 1 ()) : wpL_lawOf post 18 2503 () p0 p1 p2 p3 p4 p5 := by
  unfold wpL_lawOf
  refine ⟨by decide, by decide, 17, 2484, by decide, by decide, ?_⟩
  unfold wpX_init
  refine ⟨by decide, by decide, by decide, by decide, by decide, by decide, by decide, by decide, by decide, by decide, by decide, by decide, by decide, by decide, by decide, by decide, by decide, by decide, by decide, by decide, by decide, by decide, by decide, by decide, by decide, by decide, by decide, by decide, by decide, by decide, by decide, by decide, by decide, by decide,  ?_⟩
  refine sd_feed (m := 0) (by decide) ?_
  refine sd_feed (m := 1) (by decide) ?_
  refine br_c (fun h => sd_36 (Or.inl h) hp) (fun h1 => br_c (fun h => sd_36 (Or.inr h) hp) (fun h2 => ?_))
  obtain ⟨k, hk, rfl⟩ := nI_of h1
  have h2' : ¬ nI 2 < nI k := h2
  rw [nI_ltI (by decide) hk] at h2'
  exact sd_37 (by omega) hp
end
theorem sd_cell {post : Int32 → Prop} {L : Nat} {xs : Nat → Int32} (k : Nat) (hk : k < 2 ^ 31) (hL : L ≤ 6) (h : ∀ r, post r) : wpL_cellAt post L xs () (nI k) :=
  pk_le L k (fun _ => h _) (fun z => ⟨pk_in k L z, h _⟩)
theorem i_vc (xs : Nat → Int32) (L : Nat) (hL : L ≤ 6) : wpL_law (fun r => r = 1) L xs :=
  sd_cell 0 (by decide) hL (fun r1 => sd_cell 1 (by decide) hL (fun r2 => sd_cell 2 (by decide) hL (fun r3 => sd_cell 3 (by decide) hL (fun r4 => sd_cell 4 (by decide) hL (fun r5 => sd_cell 5 (by decide) hL (fun r6 => ⟨18, 2503, by decide, by decide, sd_lawOf rfl⟩))))))
end
