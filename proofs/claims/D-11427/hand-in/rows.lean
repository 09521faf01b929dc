section
/-- what the constructor leaves in 'low' -/
def qs_A2 : Nat → Int64 := vp_updL (vp_updL (vp_updL (vp_updL (vp_updL (vp_updL (fun _ => 0) 0 6148914691236517205) 1 3689348814741910323) 2 1085102592571150095) 3 71777214294589695) 4 281470681808895) 5 4294967295
/-- a counted loop, as a function: step i is F i -/
def qs_it {α : Type} (F : Nat → α → α) (w : α) : Nat → α
  | 0 => w
  | i + 1 => F i (qs_it F w i)
/-- one step of transformed, moved, linear, sizeOf -/
def qs_trS (i : Nat) (w : Int64) : Int64 := w ^^^ ((w &&& qs_A2 i) <<< (((1 : Int32) <<< (nI i &&& 31)).toInt64 &&& 63))
def qs_mvS (a : Int32) (i : Nat) (w : Int64) : Int64 :=
  if (a >>> (nI i &&& 31)) &&& 1 = 1 then ((w &&& qs_A2 i) <<< (((1 : Int32) <<< (nI i &&& 31)).toInt64 &&& 63)) ||| (((w.toUInt64 >>> (((1 : Int32) <<< (nI i &&& 31)).toInt64.toUInt64 &&& Int64.toUInt64 63)).toInt64) &&& qs_A2 i) else w
def qs_liS (b : Int32) (i : Nat) (w : Int64) : Int64 := if (b >>> (nI i &&& 31)) &&& 1 = 1 then w ^^^ (qs_A2 i ^^^ (-1)) else w
def qs_szS (x : Int32) (i : Nat) (n : Int32) : Int32 := n + ((x >>> (nI i &&& 31)) &&& 1)
def qs_onA (f : Int64) : Int64 := f - (((f.toUInt64 >>> ((1 : Int32).toInt64.toUInt64 &&& Int64.toUInt64 63)).toInt64) &&& (qs_A2 0))
def qs_onB (a : Int64) : Int64 := (a &&& (qs_A2 1)) + (((a.toUInt64 >>> ((2 : Int32).toInt64.toUInt64 &&& Int64.toUInt64 63)).toInt64) &&& (qs_A2 1))
def qs_onC (b : Int64) : Int64 := (b + ((b.toUInt64 >>> ((4 : Int32).toInt64.toUInt64 &&& Int64.toUInt64 63)).toInt64)) &&& (qs_A2 2)
def qs_on (f : Int64) : Int32 := (((qs_onC (qs_onB (qs_onA f)) * 72340172838076673).toUInt64 >>> ((56 : Int32).toInt64.toUInt64 &&& Int64.toUInt64 63)).toInt64).toInt32
def qs_dg (f : Int64) (p : Int32) : Int32 := (((f.toUInt64 >>> (p.toInt64.toUInt64 &&& Int64.toUInt64 63)).toInt64) &&& 1).toInt32
/-- the table under test: v, added to b.x -/
def qs_wd (v b : Nat) : Int64 := (if v = 0 then 0 else -1) ^^^ qs_it (qs_liS (nI b)) 0 6
/-- how many ones (below 64), and whether their number is odd -/
def qs_pc (x : Nat) : Nat := x % 2 + x / 2 % 2 + x / 4 % 2 + x / 8 % 2 + x / 16 % 2 + x / 32 % 2
def qs_pa (x : Nat) : Nat := qs_pc x % 2
def qs_sg (p : Nat) : Int32 := if p = 0 then 1 else -1
def qs_mag (x : Int32) : Int32 := if 0 ≤ x then x else -x
/-- one round of sums and differences, and the point of a pair where it is worked -/
def qs_bf (i : Nat) (f : Nat → Int32) (x : Nat) : Int32 := if x / 2 ^ i % 2 = 0 then f x + f (x + 2 ^ i) else f (x - 2 ^ i) - f x
def qs_ba (i x : Nat) : Nat := if x / 2 ^ i % 2 = 0 then x else x - 2 ^ i
/-- the rounds over the signs of b.x, and over one point b -/
def qs_U (b i x : Nat) : Int32 := if x % 2 ^ i = b % 2 ^ i then (if qs_pa ((b / 2 ^ i) &&& (x / 2 ^ i)) = 0 then nI (2 ^ i) else -nI (2 ^ i)) else 0
def qs_V (b i x : Nat) : Int32 := if x / 2 ^ i = b / 2 ^ i then qs_sg (qs_pa (b &&& x % 2 ^ i)) else 0
/-- one step of degree, of variables -/
def qs_dgS (g : Int64) (k : Nat) (n : Nat) : Nat := if qs_dg g (nI k) = 1 then (if qs_pc k ≤ n then n else qs_pc k) else n
def qs_vaS (f : Int64) (i : Nat) (n : Int32) : Int32 := if qs_it (qs_mvS ((1 : Int32) <<< (nI i &&& 31))) f 6 = f then n else n ||| ((1 : Int32) <<< (nI i &&& 31))
theorem qs_bf_mul (c : Int32) (i : Nat) (f : Nat → Int32) (x : Nat) : qs_bf i (fun y => c * f y) x = c * qs_bf i f x := by
  unfold qs_bf
  split
  · rw [Int32.mul_add]
  · rw [Int32.mul_sub]
end
section
theorem qs_shl : ∀ i, i < 6 → (1 : Int32) <<< (nI i &&& 31) = nI (2 ^ i) := by decide +kernel
theorem qs_bit : ∀ i, i < 6 → ∀ k, k < 64 → ((nI k >>> (nI i &&& 31)) &&& 1) = nI (k / 2 ^ i % 2) := by decide +kernel
theorem qs_b1 : ∀ i, i < 6 → ∀ k, k < 64 → k / 2 ^ i % 2 = 0 → k + 2 ^ i < 64 ∧ (k + 2 ^ i) / 2 ^ i % 2 = 1 ∧ qs_ba i k = k ∧ qs_ba i (k + 2 ^ i) = k := by decide +kernel
theorem qs_b3 : ∀ i, i < 6 → ∀ x, x < 64 → qs_ba i x / 2 ^ i % 2 = 0 ∧ (x = qs_ba i x ∨ x = qs_ba i x + 2 ^ i) := by decide +kernel
theorem qs_b2 (i : Nat) (hi : i < 6) (k : Nat) (x : Nat) (hx : x < 64) (h : qs_ba i x = k) : k / 2 ^ i % 2 = 0 ∧ (x = k ∨ x = k + 2 ^ i) := by
  rw [← h]
  exact qs_b3 i hi x hx
theorem qs_hU : ∀ i, i < 6 → ∀ b, b < 64 → ∀ x, x < 64 → qs_U b (i + 1) x = qs_bf i (qs_U b i) x := by decide +kernel
theorem qs_hV : ∀ i, i < 6 → ∀ b, b < 64 → ∀ x, x < 64 → qs_V b (i + 1) x = qs_bf i (qs_V b i) x := by decide +kernel
theorem qs_f1 : qs_it qs_trS ((1 : Int64) <<< ((0 : Int32).toInt64 &&& 63)) 6 = -1 := by decide +kernel
theorem qs_f2 : ∀ a, a < 64 → qs_it (qs_mvS (nI a)) 0 6 = 0 ∧ qs_it (qs_mvS (nI a)) (-1) 6 = -1 := by decide +kernel
theorem qs_f3 : ∀ v, v < 2 → ∀ b, b < 64 → qs_on (qs_wd v b) = if nI b = 0 then 64 * nI v else 32 := by decide +kernel
theorem qs_f4 : ∀ v, v < 2 → ∀ b, b < 64 → ∀ x, x < 64 → 1 - 2 * qs_dg (qs_wd v b) (nI x) = qs_sg v * qs_U b 0 x := by decide +kernel
theorem qs_f5 : ∀ v, v < 2 → ∀ b, b < 64 → nI (qs_it (qs_dgS (qs_it qs_trS (qs_wd v b) 6)) 0 64) = if nI b = 0 then 0 else 1 := by decide +kernel
theorem qs_f6 : ∀ v, v < 2 → ∀ b, b < 64 → qs_it (qs_vaS (qs_wd v b)) 0 6 = nI b := by decide +kernel
theorem qs_f7 : ∀ x, x < 64 → qs_it (qs_szS (nI x)) 0 6 = nI (qs_pc x) := by decide +kernel
theorem qs_U6 : ∀ b, b < 64 → ∀ x, x < 64 → qs_U b 6 x = if x = b then 64 else 0 := by decide +kernel
theorem qs_V6 : ∀ b, b < 64 → ∀ x, x < 64 → qs_V b 6 x = qs_sg (qs_pa (b &&& x)) := by decide +kernel
theorem qs_V0 : ∀ b, b < 64 → ∀ x, x < 64 → qs_V b 0 x = if x = b then 1 else 0 := by decide +kernel
theorem qs_pc6 (x : Nat) : qs_pc x ≤ 6 := by
  unfold qs_pc
  omega
theorem qs_pa2 (x : Nat) : qs_pa x < 2 := by
  unfold qs_pa
  omega
theorem qs_m1 : ∀ v, v < 2 → qs_mag (64 * qs_sg v) = 64 := by decide +kernel
theorem qs_m2 : ∀ v, v < 2 → ¬ 64 * qs_sg v = 0 := by decide +kernel
theorem qs_m3 : ∀ v, v < 2 → (64 * qs_sg v) * (64 * qs_sg v) = 4096 := by decide +kernel
theorem qs_m4 : ∀ v, v < 2 → (4096 * qs_sg v) / 64 = 64 * qs_sg v := by decide +kernel
theorem qs_m5 : ∀ v, v < 2 → 64 * qs_sg v = if nI v = 0 then 64 else -64 := by decide +kernel
/-- what the law reads off b and c -/
def qs_odd (d : Int32) : Int32 := (((d ^^^ (d >>> ((3 : Int32) &&& 31))) ^^^ ((d ^^^ (d >>> ((3 : Int32) &&& 31))) >>> ((1 : Int32) &&& 31))) ^^^ ((d ^^^ (d >>> ((3 : Int32) &&& 31))) >>> ((2 : Int32) &&& 31))) &&& 1
def qs_size (x : Int32) : Int32 := (((((x &&& 1) + ((x >>> ((1 : Int32) &&& 31)) &&& 1)) + ((x >>> ((2 : Int32) &&& 31)) &&& 1)) + ((x >>> ((3 : Int32) &&& 31)) &&& 1)) + ((x >>> ((4 : Int32) &&& 31)) &&& 1)) + ((x >>> ((5 : Int32) &&& 31)) &&& 1)
theorem qs_l1 : ∀ b, b < 64 → ∀ c, c < 64 → 64 * qs_sg (qs_pa (b &&& c)) = if qs_odd (nI b &&& nI c) = 1 then -64 else 64 := by decide +kernel
theorem qs_l2 : ∀ b, b < 64 → nI (if b = 0 then 7 else qs_pc b) - 1 = if nI b = 0 then 6 else qs_size (nI b) - 1 := by decide +kernel
end
section
theorem qs_bad {post : Int32 → Prop} {a1 a2 : Nat → Int64} {a3 : Nat → Int32} {x : Int32} (t : Nat) (ht : t < 4) (hp : post 0) (hx : x = nI t := by rfl) : wpX_bad post (a1, a2, a3) x := by
  subst hx
  exact pk_lt t 0 (fun z => absurd z (by omega)) (fun _ => pk_lt t 4 (fun _ => hp) (fun z => absurd z (by omega)))
theorem qs_badP {post : Int32 → Prop} {a1 a2 : Nat → Int64} {a3 : Nat → Int32} {x : Int32} (t : Nat) (ht : t < 64) (hp : post 0) (hx : x = nI t := by rfl) : wpX_badPoint post (a1, a2, a3) x := by
  subst hx
  exact pk_lt t 0 (fun z => absurd z (by omega)) (fun _ => pk_lt t 64 (fun _ => hp) (fun z => absurd z (by omega)))
theorem qs_digit {post : Int32 → Prop} {a1 a2 : Nat → Int64} {a3 : Nat → Int32} {f : Int64} {p : Int32} (hp : post (qs_dg f p)) : wpX_digit post (a1, a2, a3) f p := hp
theorem qs_ones {post : Int32 → Prop} {a1 : Nat → Int64} {a3 : Nat → Int32} {f : Int64} (hp : post (qs_on f)) : wpX_onesOf post (a1, qs_A2, a3) f :=
  nm_r (e' := qs_onA f) rfl (nm_r (e' := qs_onB (qs_onA f)) rfl (nm_r (e' := qs_onC (qs_onB (qs_onA f))) rfl hp))
theorem qs_magW {post : Int32 → Prop} {a1 a2 : Nat → Int64} {a3 : Nat → Int32} {x y : Int32} (hy : qs_mag x = y) (hp : post y) : wpX_magnitude post (a1, a2, a3) x := by
  subst hy
  unfold qs_mag at hp
  show (0 ≤ x → post x) ∧ (¬ 0 ≤ x → post (-x))
  exact br_c (fun z => by rw [if_pos z] at hp; exact hp) (fun z => by rw [if_neg z] at hp; exact hp)
theorem qs_trans {post : Int64 → Prop} {a1 : Nat → Int64} {a3 : Nat → Int32} {v : Int64} (hp : post (qs_it qs_trS v 6)) : wpX_transformed post (a1, qs_A2, a3) v :=
  pk_loop (fun n i s => wX_transformed_5 post a1 qs_A2 a3 n s (nI i)) (fun i s => s = qs_it qs_trS v i) 6 0 v (by omega) rfl
    (fun n s h => pk_le 6 6 (fun _ => by rw [show s = qs_it qs_trS v 6 from h]; exact hp) (fun z => absurd z (by omega)))
    (fun n i s hi h hw => pk_le 6 i (fun z => absurd z (by omega)) (fun _ => ⟨pk_in i 6 hi, nm_r (e' := qs_it qs_trS v (i + 1)) (by rw [show s = qs_it qs_trS v i from h, nI_clamp (by omega)]; rfl) (nm_r (nI_1 i) (hw _ rfl))⟩))
theorem qs_moved {post : Int64 → Prop} {a1 : Nat → Int64} {a3 : Nat → Int32} {v : Int64} {a : Int32} (hp : post (qs_it (qs_mvS a) v 6)) : wpX_moved post (a1, qs_A2, a3) v a :=
  pk_loop (fun n i s => wX_moved_6 post a a1 qs_A2 a3 n s (nI i)) (fun i s => s = qs_it (qs_mvS a) v i) 6 0 v (by omega) rfl
    (fun n s h => pk_le 6 6 (fun _ => by rw [show s = qs_it (qs_mvS a) v 6 from h]; exact hp) (fun z => absurd z (by omega)))
    (fun n i s hi h hw => pk_le 6 i (fun z => absurd z (by omega)) (fun _ => br_c
      (fun z => nm_e ⟨pk_in i 6 hi, pk_in i 6 hi, nm_r (e' := qs_it (qs_mvS a) v (i + 1)) (by rw [show s = qs_it (qs_mvS a) v i from h, nI_clamp (by omega)]; exact (if_pos z).symm) (nm_r (nI_1 i) (hw _ rfl))⟩)
      (fun z => nm_r (nI_1 i) (hw _ (by rw [show s = qs_it (qs_mvS a) v i from h]; exact (if_neg z).symm)))))
theorem qs_linear {post : Int64 → Prop} {a1 : Nat → Int64} {a3 : Nat → Int32} {b : Int32} (hp : post (qs_it (qs_liS b) 0 6)) : wpX_linear post (a1, qs_A2, a3) b :=
  pk_loop (fun n i s => wX_linear_5 post b a1 qs_A2 a3 n s (nI i)) (fun i s => s = qs_it (qs_liS b) 0 i) 6 0 0 (by omega) rfl
    (fun n s h => pk_le 6 6 (fun _ => by rw [show s = qs_it (qs_liS b) 0 6 from h]; exact hp) (fun z => absurd z (by omega)))
    (fun n i s hi h hw => pk_le 6 i (fun z => absurd z (by omega)) (fun _ => br_c
      (fun z => ⟨pk_in i 6 hi, nm_r (e' := qs_it (qs_liS b) 0 (i + 1)) (by rw [show s = qs_it (qs_liS b) 0 i from h, nI_clamp (by omega)]; exact (if_pos z).symm) (nm_r (nI_1 i) (hw _ rfl))⟩)
      (fun z => nm_r (nI_1 i) (hw _ (by rw [show s = qs_it (qs_liS b) 0 i from h]; exact (if_neg z).symm)))))
theorem qs_sizeW {post : Int32 → Prop} {a1 a2 : Nat → Int64} {a3 : Nat → Int32} {x : Nat} (hx : x < 64) (hp : post (nI (qs_pc x))) : wpX_sizeOf post (a1, a2, a3) (nI x) :=
  pk_loop (fun n i s => wX_sizeOf_4 post (nI x) a1 a2 a3 n s (nI i)) (fun i s => s = qs_it (qs_szS (nI x)) 0 i) 6 0 0 (by omega) rfl
    (fun n s h => pk_le 6 6 (fun _ => by rw [show s = qs_it (qs_szS (nI x)) 0 6 from h, qs_f7 x hx]; exact hp) (fun z => absurd z (by omega)))
    (fun n i s hi h hw => pk_le 6 i (fun z => absurd z (by omega)) (fun _ => nm_r (e' := qs_it (qs_szS (nI x)) 0 (i + 1)) (by rw [show s = qs_it (qs_szS (nI x)) 0 i from h]; rfl) (nm_r (nI_1 i) (hw _ rfl))))
/-- one pair of a round, worked -/
theorem qs_pair {i k : Nat} {f s : Nat → Int32} (hi : i < 6) (hk : k < 64) (hb : k / 2 ^ i % 2 = 0) (h : ∀ x, x < 64 → s x = if qs_ba i x < k then qs_bf i f x else f x) :
    ∀ x, x < 64 → upd (upd s k (s k + s (k + 2 ^ i))) (k + 2 ^ i) (s k - s (k + 2 ^ i)) x = if qs_ba i x < k + 1 then qs_bf i f x else f x := by
  obtain ⟨t1, t2, t3, t4⟩ := qs_b1 i hi k hk hb
  have e1 : s k = f k := by rw [h k hk, if_neg (by omega)]
  have e2 : s (k + 2 ^ i) = f (k + 2 ^ i) := by rw [h _ t1, if_neg (by omega)]
  intro x hx
  by_cases c1 : x = k + 2 ^ i
  · rw [c1, pk_us, if_pos (by omega), e1, e2]
    unfold qs_bf
    rw [if_neg (by omega), Nat.add_sub_cancel]
  · by_cases c2 : x = k
    · rw [pk_un c1, c2, pk_us, if_pos (by omega), e1, e2]
      unfold qs_bf
      rw [if_pos hb]
    · rw [pk_un c1, pk_un c2, h x hx]
      have c3 : qs_ba i x ≠ k := fun z => by
        rcases (qs_b2 i hi k x hx z).2 with q | q
        · exact c2 q
        · exact c1 q
      by_cases c4 : qs_ba i x < k
      · rw [if_pos c4, if_pos (by omega)]
      · rw [if_neg c4, if_neg (by omega)]
/-- the upper point of a pair: nothing to do -/
theorem qs_skip {i k : Nat} {f s : Nat → Int32} (hi : i < 6) (hk : k < 64) (hb : ¬ k / 2 ^ i % 2 = 0) (h : ∀ x, x < 64 → s x = if qs_ba i x < k then qs_bf i f x else f x) :
    ∀ x, x < 64 → s x = if qs_ba i x < k + 1 then qs_bf i f x else f x := by
  intro x hx
  rw [h x hx]
  have c3 : qs_ba i x ≠ k := fun z => hb (qs_b2 i hi k x hx z).1
  by_cases c4 : qs_ba i x < k
  · rw [if_pos c4, if_pos (by omega)]
  · rw [if_neg c4, if_neg (by omega)]
theorem qs_ba_le (i x : Nat) : qs_ba i x ≤ x := by
  unfold qs_ba
  split
  · exact Nat.le_refl x
  · exact Nat.sub_le x _
theorem qs_round {post : St2 → Prop} {J : Int32 → (Nat → Int64) → (Nat → Int64) → (Nat → Int32) → Prop} {a1 a2 : Nat → Int64} {i : Nat} {f s : Nat → Int32} (hi : i < 6) (hs : ∀ x, x < 64 → s x = f x)
    (H : ∀ s', (∀ x, x < 64 → s' x = qs_bf i f x) → J (nI (i + 1)) a1 a2 s') : ∃ n, wX_spread_14 post J (nI i) (nI (2 ^ i)) n 0 a1 a2 s :=
  pk_loop (fun n k s => wX_spread_14 post J (nI i) (nI (2 ^ i)) n (nI k) a1 a2 s) (fun k s => ∀ x, x < 64 → s x = if qs_ba i x < k then qs_bf i f x else f x) 64 0 s (by omega)
    (fun x hx => by rw [if_neg (by omega)]; exact hs x hx)
    (fun n s h => pk_le 64 64 (fun _ => nm_r (nI_1 i) (H s (fun x hx => by
      have t := qs_ba_le i x
      rw [h x hx, if_pos (by omega)]))) (fun z => absurd z (by omega)))
    (fun n k s hk h hw => pk_le 64 k (fun z => absurd z (by omega)) (fun _ => by
      by_cases hb : k / 2 ^ i % 2 = 0
      · obtain ⟨t1, t2, t3, t4⟩ := qs_b1 i hi k hk hb
        refine br_t (by rw [qs_bit i hi k hk, hb]; rfl) ?_
        have q := hw _ (qs_pair hi hk hb h)
        rw [nI_add, nI_clamp (show k < 2 ^ 31 by omega), nI_clamp (show k + 2 ^ i < 2 ^ 31 by omega)]
        exact ⟨pk_in k 64 hk, nm_e ⟨pk_in _ 64 t1, nm_e ⟨pk_in k 64 hk, nm_e ⟨pk_in _ 64 t1, nm_e (nm_r (nI_1 k) q)⟩⟩⟩⟩
      · refine br_f (by
          rw [qs_bit i hi k hk, show k / 2 ^ i % 2 = 1 by omega]
          decide) ?_
        exact nm_r (nI_1 k) (hw _ (qs_skip hi hk hb h))))
theorem qs_spread {post : St2 → Prop} {a1 a2 : Nat → Int64} {s : Nat → Int32} (T : Nat → Nat → Int32) (hT : ∀ i, i < 6 → ∀ x, x < 64 → T (i + 1) x = qs_bf i (T i) x) (hs : ∀ x, x < 64 → s x = T 0 x)
    (H : ∀ s', (∀ x, x < 64 → s' x = T 6 x) → post (a1, a2, s')) : wpX_spread post (a1, a2, s) :=
  pk_loop (fun n i s => wX_spread_2 post n (nI i) a1 a2 s) (fun i s => ∀ x, x < 64 → s x = T i x) 6 0 s (by omega) hs
    (fun n s h => pk_le 6 6 (fun _ => H s h) (fun z => absurd z (by omega)))
    (fun n i s hi h hw => pk_le 6 i (fun z => absurd z (by omega)) (fun _ => nm_r (qs_shl i hi) (qs_round hi h (fun s' h' => hw s' (fun x hx => by rw [h' x hx, hT i hi x hx])))))
end
section
theorem qs_cl2 : (2 : Int32).toNatClampNeg = 2 := by decide
/-- an array rewritten in place, one more point -/
theorem qs_put {f g s : Nat → Int32} {k : Nat} {y : Int32} (hk : k < 64) (h : ∀ x, x < 64 → s x = if x < k then g x else f x) (hy : y = g k) : ∀ x, x < 64 → upd s k y x = if x < k + 1 then g x else f x := by
  intro x hx
  by_cases e : x = k
  · rw [e, pk_us, if_pos (by omega), hy]
  · rw [pk_un e, h x hx]
    by_cases c : x < k
    · rw [if_pos c, if_pos (by omega)]
    · rw [if_neg c, if_neg (by omega)]
theorem qs_spec {post : St2 → Prop} {a1 a2 : Nat → Int64} {a3 : Nat → Int32} {v b : Nat} (hv : v < 2) (hb : b < 64) (hw : a1 2 = qs_wd v b)
    (H : ∀ s, (∀ x, x < 64 → s x = if x = b then 64 * qs_sg v else 0) → post (a1, a2, s)) : wpX_spectrumOf post (a1, a2, a3) 2 :=
  pk_loop (fun n k s => wX_spectrumOf_2 post 2 n (nI k) a1 a2 s) (fun k s => ∀ x, x < 64 → s x = if x < k then qs_sg v * qs_U b 0 x else a3 x) 64 0 a3 (by omega)
    (fun x hx => by rw [if_neg (by omega)])
    (fun n s h => pk_le 64 64 (fun _ => qs_spread (fun i x => qs_sg v * qs_U b i x)
        (fun i hi x hx => by
          show qs_sg v * qs_U b (i + 1) x = qs_bf i (fun y => qs_sg v * qs_U b i y) x
          rw [qs_bf_mul, qs_hU i hi b hb x hx])
        (fun x hx => by rw [h x hx, if_pos hx])
        (fun s' h' => H s' (fun x hx => by
          rw [h' x hx]
          show qs_sg v * qs_U b 6 x = _
          rw [qs_U6 b hb x hx]
          by_cases e : x = b
          · rw [if_pos e, if_pos e, Int32.mul_comm]
          · rw [if_neg e, if_neg e, Int32.mul_zero]))) (fun z => absurd z (by omega)))
    (fun n k s hk h hq => pk_le 64 k (fun z => absurd z (by omega)) (fun _ => ⟨pk_in 2 4 (by omega), qs_digit ⟨pk_in k 64 hk, by
      rw [qs_cl2, hw, nI_clamp (show k < 2 ^ 31 by omega)]
      exact nm_e (nm_r (nI_1 k) (hq _ (qs_put (g := fun x => qs_sg v * qs_U b 0 x) hk h (qs_f4 v hv b hb k hk))))⟩⟩))
theorem qs_peak {post : Int32 → Prop} {a1 a2 : Nat → Int64} {s : Nat → Int32} {b : Nat} {c : Int32} (hb : b < 64) (hc : qs_mag c = 64) (h : ∀ x, x < 64 → s x = if x = b then c else 0) (H : post (nI b)) : wpX_peak post (a1, a2, s) :=
  pk_loop (fun n k x => wX_peak_4 post a1 a2 s n x (nI k)) (fun k x => 1 ≤ k ∧ ∃ m, m < 64 ∧ x = nI m ∧ (b < k → m = b) ∧ (k ≤ b → m = 0)) 64 1 0 (by omega)
    ⟨Nat.le_refl 1, 0, by omega, rfl, fun z => by omega, fun _ => rfl⟩
    (fun n x g => pk_le 64 64 (fun _ => by
      obtain ⟨_, m, _, e, q, _⟩ := g
      rw [e, q hb]
      exact H) (fun z => absurd z (by omega)))
    (fun n k x hk g hq => pk_le 64 k (fun z => absurd z (by omega)) (fun _ => by
      obtain ⟨h1, m, hm, e, q1, q2⟩ := g
      subst e
      by_cases kb : k = b
      · have m0 : m = 0 := q2 (by omega)
        refine ⟨pk_in k 64 hk, qs_magW (y := 64) (by rw [nI_clamp (by omega), h k hk, if_pos kb]; exact hc) ⟨pk_in m 64 hm, qs_magW (y := 0) (by rw [nI_clamp (by omega), h m hm, if_neg (by omega)]; decide) (br_f (by decide) (nm_r (nI_1 k) (hq _ ⟨by omega, k, hk, rfl, fun _ => kb, fun z => absurd z (by omega)⟩)))⟩⟩
      · have t : (0 : Int32) ≤ qs_mag (s m) := by
          rw [h m hm]
          by_cases e : m = b
          · rw [if_pos e, hc]
            decide
          · rw [if_neg e]
            decide
        refine ⟨pk_in k 64 hk, qs_magW (y := 0) (by rw [nI_clamp (by omega), h k hk, if_neg kb]; decide) ⟨pk_in m 64 hm, qs_magW (y := qs_mag (s m)) (by rw [nI_clamp (by omega)]) (br_t t (nm_r (nI_1 k) (hq _ ⟨by omega, m, hm, rfl, fun z => q1 (by omega), fun z => q2 (by omega)⟩)))⟩⟩))
theorem qs_spectrum {post : Int32 → St2 → Prop} {a1 a2 : Nat → Int64} {a3 : Nat → Int32} {v b : Nat} (hv : v < 2) (hb : b < 64) (hw : a1 2 = qs_wd v b) (H : ∀ s, post (64 * qs_sg v) (a1, a2, s)) : wpX_spectrum post (a1, a2, a3) 2 (nI b) := by
  unfold wpX_spectrum
  dsimp only
  exact qs_bad 2 (by omega) (br_t rfl (qs_badP b hb (br_t rfl (qs_spec hv hb hw (fun s h => ⟨pk_in b 64 hb, by
    show post (s (nI b).toNatClampNeg) (a1, a2, s)
    rw [nI_clamp (by omega), h b hb, if_pos rfl]
    exact H s⟩)))))
theorem qs_distance {post : Int32 → St2 → Prop} {a1 a2 : Nat → Int64} {a3 : Nat → Int32} {v b : Nat} (hv : v < 2) (hb : b < 64) (hw : a1 2 = qs_wd v b) (H : ∀ s, post 0 (a1, a2, s)) : wpX_distance post (a1, a2, a3) 2 := by
  unfold wpX_distance
  dsimp only
  exact qs_bad 2 (by omega) (br_t rfl (qs_spec hv hb hw (fun s h => qs_peak hb (qs_m1 v hv) h ⟨pk_in b 64 hb, qs_magW (y := 64) (by
    show qs_mag (s (nI b).toNatClampNeg) = 64
    rw [nI_clamp (by omega), h b hb, if_pos rfl]
    exact qs_m1 v hv) ⟨by decide, H s⟩⟩)))
theorem qs_nearest {post : Int32 → St2 → Prop} {a1 a2 : Nat → Int64} {a3 : Nat → Int32} {v b : Nat} (hv : v < 2) (hb : b < 64) (hw : a1 2 = qs_wd v b) (H : ∀ s, post (nI b) (a1, a2, s)) : wpX_nearest post (a1, a2, a3) 2 := by
  unfold wpX_nearest
  dsimp only
  exact qs_bad 2 (by omega) (br_t rfl (qs_spec hv hb hw (fun s h => qs_peak hb (qs_m1 v hv) h (H s))))
theorem qs_degree {post : Int32 → Prop} {a1 : Nat → Int64} {a3 : Nat → Int32} {v b : Nat} (hv : v < 2) (hb : b < 64) (hw : a1 2 = qs_wd v b) (H : post (if nI b = 0 then 0 else 1)) : wpX_degree post (a1, qs_A2, a3) 2 := by
  unfold wpX_degree
  dsimp only
  exact qs_bad 2 (by omega) (br_t rfl ⟨pk_in 2 4 (by omega), by
    rw [qs_cl2, hw]
    refine qs_trans ?_
    have F := qs_f5 v hv b hb
    generalize qs_it qs_trS (qs_wd v b) 6 = g at F
    exact pk_loop (fun n k x => wX_degree_29 post g a1 qs_A2 a3 n x (nI k)) (fun k x => ∃ m, m ≤ 6 ∧ x = nI m ∧ m = qs_it (qs_dgS g) 0 k) 64 0 0 (by omega) ⟨0, by omega, rfl, rfl⟩
      (fun n x t => pk_le 64 64 (fun _ => by
        obtain ⟨m, _, e, e2⟩ := t
        rw [e, e2, F]
        exact H) (fun z => absurd z (by omega)))
      (fun n k x hk t hq => pk_le 64 k (fun z => absurd z (by omega)) (fun _ => by
        obtain ⟨m, hm, e, e2⟩ := t
        subst e
        have p6 := qs_pc6 k
        have st : qs_it (qs_dgS g) 0 (k + 1) = qs_dgS g k m := by rw [e2]; rfl
        unfold qs_dgS at st
        refine qs_sizeW hk (qs_digit (br_c (fun z => ?_) (fun z => ?_)))
        · rw [if_pos z] at st
          refine pk_le (qs_pc k) m (fun y => ?_) (fun y => ?_)
          · rw [if_pos y] at st
            exact nm_r (nI_1 k) (hq _ ⟨m, hm, rfl, st.symm⟩)
          · rw [if_neg (by omega)] at st
            exact nm_r (nI_1 k) (hq _ ⟨qs_pc k, p6, rfl, st.symm⟩)
        · rw [if_neg z] at st
          exact nm_r (nI_1 k) (hq _ ⟨m, hm, rfl, st.symm⟩)))⟩)
theorem qs_variables {post : Int32 → Prop} {a1 : Nat → Int64} {a3 : Nat → Int32} {v b : Nat} (hv : v < 2) (hb : b < 64) (hw : a1 2 = qs_wd v b) (H : post (nI b)) : wpX_variables post (a1, qs_A2, a3) 2 := by
  unfold wpX_variables
  dsimp only
  exact qs_bad 2 (by omega) (br_t rfl (by
    have F := qs_f6 v hv b hb
    rw [← hw] at F
    exact pk_loop (fun n i x => wX_variables_16 post 2 a1 qs_A2 a3 n x (nI i)) (fun i x => x = qs_it (qs_vaS (a1 2)) 0 i) 6 0 0 (by omega) rfl
      (fun n x t => pk_le 6 6 (fun _ => by rw [show x = qs_it (qs_vaS (a1 2)) 0 6 from t, F]; exact H) (fun z => absurd z (by omega)))
      (fun n i x hi t hq => pk_le 6 i (fun z => absurd z (by omega)) (fun _ => ⟨pk_in 2 4 (by omega), by
        rw [qs_cl2]
        refine qs_moved ⟨pk_in 2 4 (by omega), br_c (fun z => ?_) (fun z => ?_)⟩
        · exact nm_r (nI_1 i) (hq _ (by rw [show x = qs_it (qs_vaS (a1 2)) 0 i from t]; exact (if_pos z).symm))
        · exact nm_r (e' := qs_it (qs_vaS (a1 2)) 0 (i + 1)) (by rw [show x = qs_it (qs_vaS (a1 2)) 0 i from t]; exact (if_neg z).symm) (nm_r (nI_1 i) (hq _ rfl))⟩))))
end
section
theorem qs_corr {post : St2 → Prop} {a1 a2 : Nat → Int64} {a3 : Nat → Int32} {v b : Nat} (hv : v < 2) (hb : b < 64) (hw : a1 2 = qs_wd v b)
    (H : ∀ s, (∀ x, x < 64 → s x = 64 * qs_sg (qs_pa (b &&& x))) → post (a1, a2, s)) : wpX_correlate post (a1, a2, a3) 2 := by
  unfold wpX_correlate
  dsimp only
  refine qs_spec hv hb hw (fun s0 h0 => ?_)
  refine pk_loop (fun n k s => wX_correlate_7 post n (nI k) a1 a2 s) (fun k s => ∀ x, x < 64 → s x = if x < k then 4096 * qs_V b 0 x else s0 x) 64 0 s0 (by omega)
    (fun x hx => by rw [if_neg (by omega)])
    (fun n s h => pk_le 64 64 (fun _ => qs_spread (fun i x => 4096 * qs_V b i x)
        (fun i hi x hx => by
          show 4096 * qs_V b (i + 1) x = qs_bf i (fun y => 4096 * qs_V b i y) x
          rw [qs_bf_mul, qs_hV i hi b hb x hx])
        (fun x hx => by rw [h x hx, if_pos hx])
        (fun s1 h1 => ?_)) (fun z => absurd z (by omega)))
    (fun n k s hk h hq => pk_le 64 k (fun z => absurd z (by omega)) (fun _ => ⟨pk_in k 64 hk, pk_in k 64 hk, pk_in k 64 hk, by
      rw [nI_clamp (show k < 2 ^ 31 by omega)]
      exact nm_e (nm_r (nI_1 k) (hq _ (qs_put (g := fun x => 4096 * qs_V b 0 x) hk h (by
        rw [h k hk, if_neg (by omega), h0 k hk]
        show _ = 4096 * qs_V b 0 k
        rw [qs_V0 b hb k hk]
        by_cases e : k = b
        · rw [if_pos e, if_pos e, qs_m3 v hv]
          rfl
        · rw [if_neg e, if_neg e]
          rfl))))⟩))
  exact pk_loop (fun n k s => wX_correlate_44 post n (nI k) a1 a2 s) (fun k s => ∀ x, x < 64 → s x = if x < k then 64 * qs_sg (qs_pa (b &&& x)) else s1 x) 64 0 s1 (by omega)
    (fun x hx => by rw [if_neg (by omega)])
    (fun n s h => pk_le 64 64 (fun _ => H s (fun x hx => by rw [h x hx, if_pos hx])) (fun z => absurd z (by omega)))
    (fun n k s hk h hq => pk_le 64 k (fun z => absurd z (by omega)) (fun _ => ⟨pk_in k 64 hk, by decide, pk_in k 64 hk, by
      rw [nI_clamp (show k < 2 ^ 31 by omega)]
      exact nm_e (nm_r (nI_1 k) (hq _ (qs_put (g := fun x => 64 * qs_sg (qs_pa (b &&& x))) hk h (by
        rw [h k hk, if_neg (by omega), h1 k hk]
        show (4096 * qs_V b 6 k) / 64 = 64 * qs_sg (qs_pa (b &&& k))
        rw [qs_V6 b hb k hk]
        exact qs_m4 _ (qs_pa2 _)))))⟩))
theorem qs_structures {post : Int32 → St2 → Prop} {a1 a2 : Nat → Int64} {a3 : Nat → Int32} {v b : Nat} (hv : v < 2) (hb : b < 64) (hw : a1 2 = qs_wd v b) (H : ∀ s, post 64 (a1, a2, s)) : wpX_structures post (a1, a2, a3) 2 := by
  unfold wpX_structures
  dsimp only
  exact qs_bad 2 (by omega) (br_t rfl (qs_corr hv hb hw (fun s h =>
    pk_loop (fun n k x => wX_structures_21 post a1 a2 s n x (nI k)) (fun k x => x = nI k) 64 0 0 (by omega) rfl
      (fun n x t => pk_le 64 64 (fun _ => by rw [show x = nI 64 from t]; exact H s) (fun z => absurd z (by omega)))
      (fun n k x hk t hq => pk_le 64 k (fun z => absurd z (by omega)) (fun _ => ⟨pk_in k 64 hk, qs_magW (y := 64) (by rw [nI_clamp (by omega), h k hk]; exact qs_m1 _ (qs_pa2 _)) (br_t rfl (nm_r (by rw [show x = nI k from t]; exact nI_1 k) (nm_r (nI_1 k) (hq _ rfl))))⟩)))))
theorem qs_auto {post : Int32 → St2 → Prop} {a1 a2 : Nat → Int64} {a3 : Nat → Int32} {v b c : Nat} (hv : v < 2) (hb : b < 64) (hc : c < 64) (hw : a1 2 = qs_wd v b) (H : ∀ s, post (64 * qs_sg (qs_pa (b &&& c))) (a1, a2, s)) : wpX_autocorrelation post (a1, a2, a3) 2 (nI c) := by
  unfold wpX_autocorrelation
  dsimp only
  exact qs_bad 2 (by omega) (br_t rfl (qs_badP c hc (br_t rfl (qs_corr hv hb hw (fun s h => ⟨pk_in c 64 hc, by
    show post (s (nI c).toNatClampNeg) (a1, a2, s)
    rw [nI_clamp (by omega), h c hc]
    exact H s⟩)))))
theorem qs_immunity {post : Int32 → St2 → Prop} {a1 a2 : Nat → Int64} {a3 : Nat → Int32} {v b : Nat} (hv : v < 2) (hb : b < 64) (hw : a1 2 = qs_wd v b) (H : ∀ s, post (nI (if b = 0 then 7 else qs_pc b) - 1) (a1, a2, s)) : wpX_immunity post (a1, a2, a3) 2 := by
  unfold wpX_immunity
  dsimp only
  exact qs_bad 2 (by omega) (br_t rfl (qs_spec hv hb hw (fun s h =>
    pk_loop (fun n k x => wX_immunity_22 post a1 a2 s n x (nI k)) (fun k x => 1 ≤ k ∧ ∃ m, m ≤ 7 ∧ x = nI m ∧ (b ≠ 0 ∧ b < k → m = qs_pc b) ∧ (¬ (b ≠ 0 ∧ b < k) → m = 7)) 64 1 7 (by omega)
      ⟨Nat.le_refl 1, 7, by omega, rfl, fun z => absurd z (by omega), fun _ => rfl⟩
      (fun n x t => pk_le 64 64 (fun _ => by
        obtain ⟨_, m, _, e, q1, q2⟩ := t
        have e3 : m = if b = 0 then 7 else qs_pc b := by
          by_cases c : b = 0
          · rw [if_pos c]
            exact q2 (by omega)
          · rw [if_neg c]
            exact q1 (by omega)
        rw [e, e3]
        exact H s) (fun z => absurd z (by omega)))
      (fun n k x hk t hq => pk_le 64 k (fun z => absurd z (by omega)) (fun _ => by
        obtain ⟨h1, m, hm, e, q1, q2⟩ := t
        subst e
        have p6 := qs_pc6 k
        refine qs_sizeW hk ⟨pk_in k 64 hk, ?_⟩
        rw [nI_clamp (show k < 2 ^ 31 by omega), h k hk]
        by_cases c : k = b
        · rw [if_pos c]
          have m7 : m = 7 := q2 (by omega)
          exact br_f (qs_m2 v hv) (pk_le m (qs_pc k) (fun z => absurd z (by omega)) (fun _ => nm_r (nI_1 k) (hq _ ⟨by omega, qs_pc k, by omega, rfl, fun _ => by rw [c], fun z => absurd z (by omega)⟩)))
        · rw [if_neg c]
          exact br_t rfl (nm_r (nI_1 k) (hq _ ⟨by omega, m, hm, rfl, fun z => q1 (by omega), fun z => q2 (by omega)⟩)))))))
theorem qs_turn {post : Int32 → St2 → Prop} {a1 : Nat → Int64} {a3 : Nat → Int32} (h0 : a1 0 = 0) (h1 : a1 1 = 0) (H : ∀ r a, a 0 = 0 → a 1 = -1 → post r (a, qs_A2, a3)) : wpX_turnForm post (a1, qs_A2, a3) 1 0 := by
  unfold wpX_turnForm
  dsimp only
  exact qs_bad 1 (by omega) (br_t rfl (qs_badP 0 (by omega) (br_t rfl (qs_trans ⟨pk_in 1 4 (by omega), pk_in 1 4 (by omega), by
    rw [qs_f1, show (1 : Int32).toNatClampNeg = 1 by decide, h1]
    exact nm_e ⟨pk_in 1 4 (by omega), qs_ones (H _ _ (by rw [pk_uLn (by omega)]; exact h0) (by rw [pk_uLs]; decide))⟩⟩))))
theorem qs_shift {post : Int32 → St2 → Prop} {a1 : Nat → Int64} {a3 : Nat → Int32} {v a b : Nat} (hv : v < 2) (ha : a < 64) (hb : b < 64) (h0 : a1 0 = 0) (h1 : a1 1 = -1)
    (H : ∀ t, t 2 = qs_wd v b → post (if nI b = 0 then 64 * nI v else 32) (t, qs_A2, a3)) : wpX_shift post (a1, qs_A2, a3) 2 (nI v) (nI a) (nI b) := by
  unfold wpX_shift
  dsimp only
  exact qs_bad 2 (by omega) (br_t rfl (qs_bad v (by omega) (br_t rfl (qs_badP a ha (br_t rfl (qs_badP b hb (br_t rfl ⟨pk_in v 4 (by omega), qs_moved (qs_linear ⟨pk_in 2 4 (by omega), by
    have e : qs_it (qs_mvS (nI a)) (a1 (nI v).toNatClampNeg) 6 ^^^ qs_it (qs_liS (nI b)) 0 6 = qs_wd v b := by
      rw [nI_clamp (by omega)]
      unfold qs_wd
      by_cases z : v = 0
      · rw [if_pos z, z, h0, (qs_f2 a ha).1]
      · rw [if_neg z, show v = 1 by omega, h1, (qs_f2 a ha).2]
    rw [e, qs_cl2]
    refine nm_e ⟨pk_in 2 4 (by omega), qs_ones ?_⟩
    rw [pk_uLs, qs_f3 v hv b hb]
    exact H _ pk_uLs⟩)⟩)))))))
end
section
theorem qs_e281 {mc ms kc ks : Nat} {x4 x15 x19 z0 z1 : Int32} (h1 : z1 = z0) (h2 : x15 = if x4 = 0 then 6 else x19 - 1) : wL_lawOf_281 (fun r _ => r = 1) mc ms x4 x15 x19 z0 z1 kc ks :=
  br_t h1 (br_c (fun z => br_t (by rw [h2, if_pos z]) rfl) (fun z => br_t (by rw [h2, if_neg z]) rfl))
theorem qs_e249 {mc ms kc ks : Nat} {x4 x12 x13 x14 x15 x18 x19 z0 z1 : Int32} (h1 : z1 = z0) (h2 : x12 = x4) (h3 : x13 = 64) (h4 : x14 = if x18 = 1 then -64 else 64) (h5 : x15 = if x4 = 0 then 6 else x19 - 1) :
    wL_lawOf_249 (fun r _ => r = 1) mc ms x4 x12 x13 x14 x15 x18 x19 z0 z1 kc ks :=
  br_t h1 (br_t h2 (br_t h3 (br_c (fun z => qs_e281 (by rw [h4, if_pos z]) h5) (fun z => qs_e281 (by rw [h4, if_neg z]) h5))))
theorem qs_e222 {mc ms kc ks : Nat} {x4 x9 x10 x11 x12 x13 x14 x15 x18 x19 z0 z1 : Int32} (h1 : z1 = z0) (k9 : x9 = 0) (k10 : x10 = x4) (k11 : x11 = if x4 = 0 then 0 else 1) (h2 : x12 = x4) (h3 : x13 = 64) (h4 : x14 = if x18 = 1 then -64 else 64) (h5 : x15 = if x4 = 0 then 6 else x19 - 1) :
    wL_lawOf_222 (fun r _ => r = 1) mc ms x4 x9 x10 x11 x12 x13 x14 x15 x18 x19 z0 z1 kc ks :=
  br_t h1 (br_t k9 (br_t k10 (br_c (fun z => qs_e249 (by rw [k11, if_pos z]) h2 h3 h4 h5) (fun z => qs_e249 (by rw [k11, if_neg z]) h2 h3 h4 h5))))
theorem qs_e205 {mc ms kc ks : Nat} {x4 x6 x8 x9 x10 x11 x12 x13 x14 x15 x18 x19 z0 z1 : Int32} (h1 : z1 = z0) (k8 : x8 = if x6 = 0 then 64 else -64) (k9 : x9 = 0) (k10 : x10 = x4) (k11 : x11 = if x4 = 0 then 0 else 1) (h2 : x12 = x4) (h3 : x13 = 64) (h4 : x14 = if x18 = 1 then -64 else 64) (h5 : x15 = if x4 = 0 then 6 else x19 - 1) :
    wL_lawOf_205 (fun r _ => r = 1) mc ms x4 x6 x8 x9 x10 x11 x12 x13 x14 x15 x18 x19 z0 z1 kc ks :=
  br_t h1 (br_c (fun z => qs_e222 (by rw [k8, if_pos z]) k9 k10 k11 h2 h3 h4 h5) (fun z => qs_e222 (by rw [k8, if_neg z]) k9 k10 k11 h2 h3 h4 h5))
theorem qs_lawOf (p0 p1 : Int32) : wpL_lawOf (fun r _ => r = 1) 52 816 () p0 p1 := by
  obtain ⟨a, ha, ea⟩ := pk_andE p0 (m := 63) 6 (by decide)
  obtain ⟨b, hb, eb⟩ := pk_andE (p0 >>> ((6 : Int32) &&& 31)) (m := 63) 6 (by decide)
  obtain ⟨c, hc, ec⟩ := pk_andE p1 (m := 63) 6 (by decide)
  obtain ⟨v, hv, ev⟩ := pk_andE (p1 >>> ((6 : Int32) &&& 31)) (m := 1) 1 (by decide)
  have ha : a < 64 := ha
  have hb : b < 64 := hb
  have hc : c < 64 := hc
  have hv : v < 2 := hv
  refine ⟨by omega, by omega, 3, 74, by omega, by omega, by omega, by omega, by omega, by omega, by omega, by omega, nm_e (nm_e (nm_e (nm_e (nm_e (nm_r (e' := qs_A2) rfl ?_)))))⟩
  refine nm_r ea (nm_r eb (nm_r ec (nm_r ev ?_)))
  refine qs_turn rfl rfl (fun r22 t1 g0 g1 => ?_)
  refine qs_shift hv ha hb g0 g1 (fun t2 hw => ?_)
  refine qs_spectrum hv hb hw (fun s1 => ?_)
  refine qs_distance hv hb hw (fun s2 => ?_)
  refine qs_nearest hv hb hw (fun s3 => ?_)
  refine qs_degree hv hb hw ?_
  refine qs_variables hv hb hw ?_
  refine qs_structures hv hb hw (fun s4 => ?_)
  refine qs_auto hv hb hc hw (fun s5 => ?_)
  refine qs_immunity hv hb hw (fun s6 => ?_)
  refine nm_e (nm_e (nm_r (e' := qs_odd (nI b &&& nI c)) rfl (nm_r (e' := qs_size (nI b)) rfl ?_)))
  exact br_c (fun z => qs_e205 (by rw [if_pos z]) (qs_m5 v hv) rfl rfl rfl rfl rfl (qs_l1 b hb c hc) (qs_l2 b hb))
    (fun z => qs_e205 (by rw [if_neg z]) (qs_m5 v hv) rfl rfl rfl rfl rfl (qs_l1 b hb c hc) (qs_l2 b hb))
theorem qs_cell {post : Int32 → Prop} {L : Nat} {xs : Nat → Int32} (k : Nat) {p : Int32} (hL : L ≤ 2) (hk : k < 2) (H : ∀ r, post r) (hp : p = nI k := by rfl) : wpL_cellAt post L xs () p := by
  subst hp
  exact pk_le L k (fun _ => H _) (fun z => ⟨pk_in k L z, H _⟩)
theorem i_vc (xs : Nat → Int32) (L : Nat) (hL : L ≤ 2) : wpL_law (fun r => r = 1) L xs :=
  qs_cell 0 hL (by omega) (fun r1 => qs_cell 1 hL (by omega) (fun r2 => ⟨52, 816, by omega, by omega, qs_lawOf r1 r2⟩))
end
