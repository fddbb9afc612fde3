section
/-- an array of 24 rows: the value v in row k, 0 in every other one -/
def rr_P (a : Nat → Int32) (k : Nat) (v : Int32) : Prop := ∀ j, j < 24 → a j = if j = k then v else 0
/-- how many bits a value with at most one bit has -/
def rr_c (v : Int32) : Int32 := if v = 0 then 0 else 1
/-- what the pen leaves of a figure's row v over an empty row -/
def rr_w (pm v : Int32) : Int32 := if pm = 1 then 0 else v
/-- a pixel of the raster, as the law asks for it -/
def rr_good (p : Int32) : Prop := ¬ p < 0 ∧ ¬ 768 ≤ p ∧ ¬ 23 < (p &&& 31)
/-- a row moved by dx columns -/
def rr_sh (dx v : Int32) : Int32 := if dx < 0 then (v >>> ((-dx) &&& 31)) &&& 16777215 else (v <<< (dx &&& 31)) &&& 16777215
/-- what the one row holds behind a move by (d - 24, e - 24) -/
def rr_v (d e k : Nat) (v : Int32) : Int32 := if 24 ≤ k + e ∧ k + e < 48 then rr_sh (nI d - 24) v else 0
/-- the one bit of column x -/
def rr_b (x : Nat) : Int32 := (1 : Int32) <<< (nI x &&& 31)
theorem rr_b_ok : ∀ x, x < 24 → (rr_b x &&& (rr_b x - 1) = 0 ∧ ¬ rr_b x = 0) := by decide +kernel
theorem rr_b_get : ∀ x, x < 24 → ∀ a, a < 24 → (rr_b x >>> (nI a &&& 31)) &&& 1 = if a = x then 1 else 0 := by decide +kernel
theorem rr_b_sh : ∀ x, x < 24 → ∀ d, d < 49 → (rr_sh (nI d - 24) (rr_b x) &&& (rr_sh (nI d - 24) (rr_b x) - 1) = 0 ∧ (rr_sh (nI d - 24) (rr_b x) = 0 ↔ ¬ (24 ≤ x + d ∧ x + d < 48))) := by decide +kernel
theorem rr_rng : ∀ d, d < 49 → (¬ nI d - 24 < -24 ∧ ¬ 24 < nI d - 24 ∧ nI d - 24 ≤ 24) := by decide +kernel
theorem rr_cmp : ∀ x, x < 24 → ∀ d, d < 49 → ((nI x + (nI d - 24) < 0 ↔ x + d < 24) ∧ (23 < nI x + (nI d - 24) ↔ 48 ≤ x + d) ∧ (nI x + (nI d - 24) ≤ 23 ↔ x + d < 48)) := by decide +kernel
theorem rr_sh0 (dx : Int32) : rr_sh dx 0 = 0 := by
  unfold rr_sh
  rw [Int32.zero_shiftLeft, Int32.zero_shiftRight, Int32.zero_and]
  by_cases h : dx < 0
  · rw [if_pos h]
  · rw [if_neg h]
theorem rr_c0 : rr_c 0 = 0 := rfl
theorem rr_cp {v : Int32} (h : v = 0) : rr_c v = 0 := if_pos h
theorem rr_cn {v : Int32} (h : ¬ v = 0) : rr_c v = 1 := if_neg h
theorem rr_lt24 (z : Int32) : 24 ≤ z ↔ 23 < z := by
  rw [Int32.le_iff_toInt_le, Int32.lt_iff_toInt_lt, show (24 : Int32).toInt = 24 from by decide, show (23 : Int32).toInt = 23 from by decide]
  omega
theorem rr_fill {f s : Nat → Int32} {i : Nat} {x : Int32} (h : ∀ j, j < i → s j = f j) (hx : x = f i) : ∀ j, j < i + 1 → upd s i x j = f j := by
  intro j hj
  by_cases e : j = i
  · rw [e, pk_us, hx]
  · rw [pk_un e]
    exact h j (by omega)
theorem rr_sub (i e : Nat) : nI i - (nI e - 24) = nI (i + 24) - nI e := by
  rw [← nI_add i 24, show nI 24 = (24 : Int32) from rfl]
  grind
/-- an int between -24 and 24 -/
theorem rr_of {x : Int32} (h1 : ¬ x < -24) (h2 : ¬ 24 < x) : ∃ d : Nat, d < 49 ∧ x = nI d - 24 := by
  rw [Int32.lt_iff_toInt_lt, show (-24 : Int32).toInt = -24 from by decide] at h1
  rw [Int32.lt_iff_toInt_lt, show (24 : Int32).toInt = 24 from by decide] at h2
  refine ⟨(x.toInt + 24).toNat, by omega, ?_⟩
  have e : nI (x.toInt + 24).toNat = x + 24 := by
    apply Int32.toInt_inj.mp
    rw [nI_toInt (by omega), Int32.toInt_add, show (24 : Int32).toInt = 24 from by decide, Int.bmod_eq_of_le (by omega) (by omega)]
    omega
  rw [e, Int32.add_sub_cancel]
/-- a pixel's two coordinates -/
theorem rr_gnat {p : Int32} (g : rr_good p) : ∃ x y : Nat, x < 24 ∧ y < 24 ∧ p = nI (32 * y + x) ∧ p &&& 31 = nI x ∧ p >>> ((5 : Int32) &&& 31) = nI y := by
  obtain ⟨g1, g2, g3⟩ := g
  obtain ⟨j, hj, rfl⟩ := nI_of g1
  have ha : nI j &&& 31 = nI (j % 2 ^ 5) := pk_andN (by omega) 5 (by decide)
  have hs : nI j >>> ((5 : Int32) &&& 31) = nI (j / 2 ^ 5) := pk_shrN hj _ 5 (by decide)
  have h2 : j < 768 := by
    rcases Nat.lt_or_ge j 768 with z | z
    · exact z
    · exact absurd (show (768 : Int32) ≤ nI j from nI_le z hj) g2
  have h3 : j % 2 ^ 5 < 24 := by
    rcases Nat.lt_or_ge (j % 2 ^ 5) 24 with z | z
    · exact z
    · rw [ha] at g3
      exact absurd (show (23 : Int32) < nI (j % 2 ^ 5) from nI_lt (a := 23) z (by omega)) g3
  refine ⟨j % 2 ^ 5, j / 2 ^ 5, h3, by omega, ?_, ha, hs⟩
  rw [show 32 * (j / 2 ^ 5) + j % 2 ^ 5 = j by omega]
end
section
theorem rr_bits {post : Int32 → Prop} {u : St2} {v : Int32} (hv : v &&& (v - 1) = 0) (hp : post (rr_c v)) : wpX_bitsIn post u v := by
  obtain ⟨pm, wt, a1, a2, a3, a4, a5⟩ := u
  show ∃ n, wX_bitsIn_4 post pm wt a1 a2 a3 a4 a5 n 0 v
  by_cases h : v = 0
  · rw [rr_cp h] at hp
    exact ⟨1, br_t h hp⟩
  · rw [rr_cn h] at hp
    exact ⟨2, br_f h (nm_r hv (nm_r (show (0 : Int32) + 1 = 1 by decide) (br_t rfl hp)))⟩
theorem rr_cnt {post : Int32 → Prop} {pm wt : Int32} {a1 a2 a3 a4 a5 : Nat → Int32} {k : Nat} {v : Int32} (hk : k < 24) (hv : v &&& (v - 1) = 0) (h : rr_P a1 k v) (hp : post (rr_c v)) : wpX_count post (pm, wt, a1, a2, a3, a4, a5) := by
  show ∃ n, wX_count_4 post pm wt a1 a2 a3 a4 a5 n 0 0
  refine pk_loop (fun n i s => wX_count_4 post pm wt a1 a2 a3 a4 a5 n s (nI i)) (fun i s => s = if k < i then rr_c v else 0) 24 0 0 (by omega) rfl ?_ ?_
  · intro n s hs
    have hs' : s = if k < 24 then rr_c v else 0 := hs
    rw [if_pos hk] at hs'
    show wX_count_4 post pm wt a1 a2 a3 a4 a5 (n + 1) s (nI 24)
    rw [hs']
    exact pk_le 24 24 (fun _ => hp) (fun z => absurd z (by omega))
  · intro n i s hi hs hw
    have hs' : s = if k < i then rr_c v else 0 := hs
    have hn : s + rr_c (if i = k then v else 0) = if k < i + 1 then rr_c v else 0 := by
      rw [hs']
      by_cases e : i = k
      · rw [if_pos e, if_neg (by omega), if_pos (by omega), Int32.zero_add]
      · rw [if_neg e, rr_c0, Int32.add_zero]
        by_cases e2 : k < i
        · rw [if_pos e2, if_pos (by omega)]
        · rw [if_neg e2, if_neg (by omega)]
    have hb : (if i = k then v else 0) &&& ((if i = k then v else 0) - 1) = 0 := by
      by_cases e : i = k
      · rw [if_pos e]
        exact hv
      · rw [if_neg e]
        decide
    show wX_count_4 post pm wt a1 a2 a3 a4 a5 (n + 1) s (nI i)
    refine pk_le 24 i (fun z => absurd z (by omega)) (fun _ => ⟨pk_in i 24 hi, ?_⟩)
    rw [nI_clamp (by omega), h i hi]
    exact rr_bits hb (nm_e (nm_r (nI_1 i) (hw _ hn)))
theorem rr_clear {post : St2 → Prop} {pm wt : Int32} {a1 a2 a3 a4 a5 : Nat → Int32} (hp : ∀ b, (∀ j, j < 24 → b j = 0) → post (pm, wt, a1, b, a3, a4, a5)) : wpX_clearFigure post (pm, wt, a1, a2, a3, a4, a5) :=
  pk_loop (fun n i s => wX_clearFigure_2 post pm wt n (nI i) a1 s a3 a4 a5) (fun i s => ∀ j, j < i → s j = 0) 24 0 a2 (by omega) (fun j hj => absurd hj (by omega))
    (fun n s h => pk_le 24 24 (fun _ => hp s h) (fun z => absurd z (by omega)))
    (fun n i s hi h hw => pk_le 24 i (fun z => absurd z (by omega)) (fun _ => ⟨pk_in i 24 hi, nm_r (by rw [nI_clamp (by omega)]) (nm_r (nI_1 i) (hw _ (rr_fill (f := fun _ => 0) h rfl)))⟩))
theorem rr_dist {post : Int32 → Prop} {u : St2} {z : Int32} (hp : post 0) : wpX_distance post u z z := by
  obtain ⟨pm, wt, a1, a2, a3, a4, a5⟩ := u
  refine br_t (Int32.le_refl z) ?_
  rw [Int32.sub_self]
  exact hp
theorem rr_dot {post : St2 → Prop} {pm wt : Int32} {a1 a2 a3 a4 a5 : Nat → Int32} {x y : Nat} (hx : x < 24) (hy : y < 24) (hp : post (pm, wt, a1, upd a2 y (a2 y ||| rr_b x), a3, a4, a5)) : wpX_dot post (pm, wt, a1, a2, a3, a4, a5) (nI x) (nI y) :=
  br_f (nI_pos (by omega)) (pk_le 24 x (fun z => absurd z (by omega)) (fun _ => br_f (nI_pos (by omega)) (pk_le 24 y (fun z => absurd z (by omega)) (fun _ => ⟨pk_in y 24 hy, pk_in y 24 hy, nm_r (by rw [nI_clamp (by omega)]; rfl) hp⟩))))
theorem rr_walk {post : St2 → Prop} {pm wt : Int32} {a1 a2 a3 a4 a5 : Nat → Int32} {x y : Nat} (hx : x < 24) (hy : y < 24) (hp : post (pm, wt, a1, upd a2 y (a2 y ||| rr_b x), a3, a4, a5)) : wpX_walkLine post (pm, wt, a1, a2, a3, a4, a5) (nI x) (nI y) (nI x) (nI y) 0 := by
  have hn : ¬ nI x < nI x := nI_nlt (Nat.le_refl x) (by omega)
  refine br_f hn (br_f hn (br_f hn (br_f hn ?_)))
  rw [Int32.sub_self]
  refine nm_r (Int32.sub_self _) ?_
  refine ⟨2, br_f hn (br_t rfl (rr_dot hx hy ?_))⟩
  show wX_walkLine_100 post (wX_walkLine_69 post 0 (nI x) 0 0 1) 0 (nI x) (nI y) 0 0 0 (nI x) pm wt a1 (upd a2 y (a2 y ||| rr_b x)) a3 a4 a5
  exact nm_r (show (0 : Int32) + 2 * 0 = 0 by decide) (br_t (show (0 : Int32) ≤ 0 by decide) (br_f (show ¬ -(0 : Int32) < 0 by decide) (br_t (show (0 : Int32) ≤ 0 by decide) (nm_r (nI_1 x) (br_t (nI_lt (Nat.lt_succ_self x) (by omega)) hp)))))
theorem rr_ink72 {post : Int32 → St2 → Prop} {J : Int32 → Int32 → (Nat → Int32) → (Nat → Int32) → (Nat → Int32) → (Nat → Int32) → (Nat → Int32) → Prop} {x1 z pm wt : Int32} {a1 a2 a3 a4 a5 : Nat → Int32} {i : Nat} (hi : i < 24) (ha : a1 i = 0) (hz : z &&& (z - 1) = 0) (hJ : J (x1 + rr_c z) (nI (i + 1)) (upd a1 i z) a2 a3 a4 a5) : wX_ink_72 post J x1 (nI i) z pm wt a1 a2 a3 a4 a5 := by
  unfold wX_ink_72
  rw [nI_clamp (by omega), ha, Int32.zero_xor]
  exact ⟨pk_in i 24 hi, rr_bits hz (nm_e ⟨pk_in i 24 hi, nm_e (nm_r (nI_1 i) hJ)⟩)⟩
theorem rr_ink {post : Int32 → St2 → Prop} {pm wt : Int32} {a1 a2 a3 a4 a5 : Nat → Int32} {k : Nat} {v : Int32} (hk : k < 24) (hv : v &&& (v - 1) = 0) (h0 : ∀ j, j < 24 → a1 j = 0) (h2 : rr_P a2 k v) (hp : ∀ b1, rr_P b1 k (rr_w pm v) → post (rr_c (rr_w pm v)) (pm, wt, b1, a2, a3, a4, a5)) : wpX_ink post (pm, wt, a1, a2, a3, a4, a5) := by
  show ∃ n, wX_ink_4 post pm wt n 0 0 a1 a2 a3 a4 a5
  refine pk_loop (fun n i (s : Int32 × (Nat → Int32)) => wX_ink_4 post pm wt n s.1 (nI i) s.2 a2 a3 a4 a5) (fun i s => s.1 = (if k < i then rr_c (rr_w pm v) else 0) ∧ ∀ j, j < 24 → s.2 j = if j = k ∧ j < i then rr_w pm v else 0) 24 0 (0, a1) (by omega) ⟨rfl, fun j hj => ?_⟩ ?_ ?_
  · rw [if_neg (by omega)]
    exact h0 j hj
  · intro n s hs
    obtain ⟨c, b1⟩ := s
    have hc : c = if k < 24 then rr_c (rr_w pm v) else 0 := hs.1
    have hb : ∀ j, j < 24 → b1 j = if j = k ∧ j < 24 then rr_w pm v else 0 := hs.2
    rw [if_pos hk] at hc
    show wX_ink_4 post pm wt (n + 1) c (nI 24) b1 a2 a3 a4 a5
    rw [hc]
    refine pk_le 24 24 (fun _ => hp b1 (fun j hj => ?_)) (fun z => absurd z (by omega))
    rw [hb j hj]
    by_cases e : j = k
    · rw [if_pos e, if_pos ⟨e, hj⟩]
    · rw [if_neg e, if_neg (fun t => e t.1)]
  · intro n i s hi hs hw
    obtain ⟨c, b1⟩ := s
    have hc : c = if k < i then rr_c (rr_w pm v) else 0 := hs.1
    have hb : ∀ j, j < 24 → b1 j = if j = k ∧ j < i then rr_w pm v else 0 := hs.2
    have hi0 : b1 i = 0 := by rw [hb i hi, if_neg (by omega)]
    have key : ∀ z : Int32, z = (if i = k then rr_w pm v else 0) → wX_ink_72 post (wX_ink_4 post pm wt n) c (nI i) z pm wt b1 a2 a3 a4 a5 := by
      intro z hz
      refine rr_ink72 hi hi0 ?_ (hw (c + rr_c z, upd b1 i z) ⟨?_, ?_⟩)
      · rw [hz]
        by_cases e : i = k
        · rw [if_pos e]
          unfold rr_w
          by_cases e2 : pm = 1
          · rw [if_pos e2]
            decide
          · rw [if_neg e2]
            exact hv
        · rw [if_neg e]
          decide
      · show c + rr_c z = if k < i + 1 then rr_c (rr_w pm v) else 0
        rw [hz, hc]
        by_cases e : i = k
        · rw [if_pos e, if_neg (by omega), if_pos (by omega), Int32.zero_add]
        · rw [if_neg e, rr_c0, Int32.add_zero]
          by_cases e2 : k < i
          · rw [if_pos e2, if_pos (by omega)]
          · rw [if_neg e2, if_neg (by omega)]
      · intro j hj
        show upd b1 i z j = if j = k ∧ j < i + 1 then rr_w pm v else 0
        by_cases e : j = i
        · rw [e, pk_us, hz]
          by_cases e2 : i = k
          · rw [if_pos e2, if_pos ⟨e2, by omega⟩]
          · rw [if_neg e2, if_neg (fun t => e2 t.1)]
        · rw [pk_un e, hb j hj]
          by_cases e2 : j = k ∧ j < i
          · rw [if_pos e2, if_pos ⟨e2.1, by omega⟩]
          · rw [if_neg e2, if_neg (fun t => e2 ⟨t.1, by omega⟩)]
    show wX_ink_4 post pm wt (n + 1) c (nI i) b1 a2 a3 a4 a5
    refine pk_le 24 i (fun z => absurd z (by omega)) (fun _ => br_c (fun e => ⟨pk_in i 24 hi, pk_in i 24 hi, key _ ?_⟩) (fun e0 => br_c (fun e => ⟨pk_in i 24 hi, pk_in i 24 hi, key _ ?_⟩) (fun e => ⟨pk_in i 24 hi, pk_in i 24 hi, key _ ?_⟩)))
    · rw [nI_clamp (by omega), hi0, Int32.zero_or, h2 i hi]
      unfold rr_w
      rw [if_neg (show ¬ pm = 1 from by rw [e]; decide)]
    · rw [nI_clamp (by omega), hi0, Int32.zero_and]
      unfold rr_w
      rw [if_pos e, ite_self]
    · rw [nI_clamp (by omega), hi0, Int32.zero_xor, h2 i hi]
      unfold rr_w
      rw [if_neg e]
theorem rr_pix {post : Int32 → Prop} {u : St2} {p : Int32} (h1 : rr_good p → post 1) (h0 : ¬ rr_good p → post 0) : wpX_isPixel post u p := by
  obtain ⟨pm, wt, a1, a2, a3, a4, a5⟩ := u
  refine br_c (fun h => h0 (fun g => g.1 h)) (fun h => br_c (fun k => h0 (fun g => g.2.2 ((rr_lt24 _).mp k))) (fun k => ?_))
  obtain ⟨j, hj, rfl⟩ := nI_of h
  have hs : nI j >>> ((5 : Int32) &&& 31) = nI (j / 2 ^ 5) := pk_shrN hj _ 5 (by decide)
  rw [hs]
  refine pk_le 24 (j / 2 ^ 5) (fun z => h0 (fun g => g.2.1 (nI_le (a := 768) (by omega) hj))) (fun z => h1 ⟨h, nI_ge (b := 768) ?_ (by decide), fun t => k ((rr_lt24 _).mpr t)⟩)
  omega
theorem rr_lineB {post : Int32 → St2 → Prop} {u : St2} {p : Int32} (g : ¬ rr_good p) (hp : post (-1) u) : wpX_line post u p p := by
  obtain ⟨pm, wt, a1, a2, a3, a4, a5⟩ := u
  unfold wpX_line
  exact rr_pix (fun z => absurd z g) (fun _ => br_t rfl hp)
theorem rr_lineG {post : Int32 → St2 → Prop} {pm wt : Int32} {a1 a2 a3 a4 a5 : Nat → Int32} {p : Int32} {x y : Nat} (g : rr_good p) (hx : x < 24) (hy : y < 24) (e1 : p &&& 31 = nI x) (e2 : p >>> ((5 : Int32) &&& 31) = nI y) (h0 : ∀ j, j < 24 → a1 j = 0) (hp : ∀ b1 b2, rr_P b1 y (rr_w pm (rr_b x)) → post (rr_c (rr_w pm (rr_b x))) (pm, wt, b1, b2, a3, a4, a5)) : wpX_line post (pm, wt, a1, a2, a3, a4, a5) p p := by
  unfold wpX_line
  rw [e1, e2]
  refine rr_pix (fun _ => br_f (by decide) (rr_pix (fun _ => br_f (by decide) (rr_clear (fun b2 hb => ?_))) (fun z => absurd g z))) (fun z => absurd g z)
  refine rr_dist (rr_dist (br_f (by decide) (rr_walk hx hy ?_)))
  refine rr_ink hy (rr_b_ok x hx).1 h0 (fun j hj => ?_) (fun b1 hb1 => hp b1 _ hb1)
  by_cases e : j = y
  · rw [if_pos e, e, pk_us, hb y hy, Int32.zero_or]
  · rw [if_neg e, pk_un e, hb j hj]
theorem rr_getB {post : Int32 → Prop} {u : St2} {q : Int32} (g : ¬ rr_good q) (hp : post (-1)) : wpX_get post u q := by
  obtain ⟨pm, wt, a1, a2, a3, a4, a5⟩ := u
  unfold wpX_get
  exact rr_pix (fun z => absurd z g) (fun _ => br_t rfl hp)
theorem rr_getG {post : Int32 → Prop} {pm wt : Int32} {a1 a2 a3 a4 a5 : Nat → Int32} {q : Int32} {x y : Nat} (g : rr_good q) (hy : y < 24) (e1 : q &&& 31 = nI x) (e2 : q >>> ((5 : Int32) &&& 31) = nI y) (hp : post ((a1 y >>> (nI x &&& 31)) &&& 1)) : wpX_get post (pm, wt, a1, a2, a3, a4, a5) q := by
  unfold wpX_get
  rw [e1, e2, nI_clamp (by omega)]
  exact rr_pix (fun _ => br_f (by decide) ⟨pk_in y 24 hy, hp⟩) (fun z => absurd g z)
end
section
theorem rr_34 {post : Int32 → St2 → Prop} {x1 x3 pm wt : Int32} {a1 a2 a3 a4 a5 : Nat → Int32} {e k : Nat} {v : Int32} (he : e < 49) (h : rr_P a1 k v)
    (hp : ∀ b2, (∀ j, j < 24 → b2 j = if j + 24 = k + e then v else 0) → ∃ n, wX_move_86 post x1 x3 pm wt n 0 a1 b2 a3 a4 a5) (hk : k < 24) : ∃ n, wX_move_34 post x1 (nI e - 24) x3 pm wt n 0 a1 a2 a3 a4 a5 := by
  refine pk_loop (fun n i s => wX_move_34 post x1 (nI e - 24) x3 pm wt n (nI i) a1 s a3 a4 a5) (fun i s => ∀ j, j < i → s j = if j + 24 = k + e then v else 0) 24 0 a2 (by omega) (fun j hj => absurd hj (by omega))
    (fun n s hs => pk_le 24 24 (fun _ => hp s hs) (fun z => absurd z (by omega))) ?_
  intro n i s hi hs hw
  have key : ∀ z : Int32, z = (if i + 24 = k + e then v else 0) → ∀ s', s' = upd s (nI i).toNatClampNeg z → ∀ x4, x4 = nI i + 1 → wX_move_34 post x1 (nI e - 24) x3 pm wt n x4 a1 s' a3 a4 a5 := by
    intro z hz
    exact nm_r (by rw [nI_clamp (by omega)]) (nm_r (nI_1 i) (hw _ (rr_fill (f := fun j => if j + 24 = k + e then v else 0) hs hz)))
  show wX_move_34 post x1 (nI e - 24) x3 pm wt (n + 1) (nI i) a1 s a3 a4 a5
  refine pk_le 24 i (fun z => absurd z (by omega)) (fun _ => ?_)
  rw [rr_sub]
  by_cases c : i + 24 < e
  · exact br_t (pk_sneg (by omega) c) ⟨pk_in i 24 hi, key 0 (by rw [if_neg (by omega)])⟩
  · rw [pk_sub (by omega)]
    refine br_f (nI_pos (by omega)) (pk_le 24 (i + 24 - e) (fun z => ⟨pk_in i 24 hi, key 0 (by rw [if_neg (by omega)])⟩) (fun z => ⟨pk_in (i + 24 - e) 24 z, pk_in i 24 hi, key _ ?_⟩))
    rw [nI_clamp (by omega), h _ z]
    by_cases c2 : i + 24 = k + e
    · rw [if_pos c2, if_pos (by omega)]
    · rw [if_neg c2, if_neg (by omega)]
theorem rr_86 {post : Int32 → St2 → Prop} {dx x3 pm wt : Int32} {a1 a2 a3 a4 a5 : Nat → Int32}
    (hp : ∀ b1, (∀ j, j < 24 → b1 j = rr_sh dx (a2 j)) → wpX_count (fun r => post (x3 - r) (pm, wt, b1, a2, a3, a4, a5)) (pm, wt, b1, a2, a3, a4, a5)) : ∃ n, wX_move_86 post dx x3 pm wt n 0 a1 a2 a3 a4 a5 := by
  refine pk_loop (fun n i s => wX_move_86 post dx x3 pm wt n (nI i) s a2 a3 a4 a5) (fun i s => ∀ j, j < i → s j = rr_sh dx (a2 j)) 24 0 a1 (by omega) (fun j hj => absurd hj (by omega))
    (fun n s hs => pk_le 24 24 (fun _ => hp s hs) (fun z => absurd z (by omega))) ?_
  intro n i s hi hs hw
  show wX_move_86 post dx x3 pm wt (n + 1) (nI i) s a2 a3 a4 a5
  refine pk_le 24 i (fun z => absurd z (by omega)) (fun _ => ?_)
  rw [nI_clamp (by omega)]
  exact br_c (fun c => ⟨pk_in i 24 hi, pk_in i 24 hi, nm_e (nm_r (nI_1 i) (hw _ (rr_fill (f := fun j => rr_sh dx (a2 j)) hs (if_pos c).symm)))⟩)
    (fun c => ⟨pk_in i 24 hi, pk_in i 24 hi, nm_e (nm_r (nI_1 i) (hw _ (rr_fill (f := fun j => rr_sh dx (a2 j)) hs (if_neg c).symm)))⟩)
theorem rr_move {post : Int32 → St2 → Prop} {pm wt : Int32} {a1 a2 a3 a4 a5 : Nat → Int32} {d e k : Nat} {v : Int32} (hd : d < 49) (he : e < 49) (hk : k < 24) (hv : v &&& (v - 1) = 0) (hs : rr_sh (nI d - 24) v &&& (rr_sh (nI d - 24) v - 1) = 0) (h : rr_P a1 k v)
    (hp : ∀ b1 b2 k', k' < 24 → rr_P b1 k' (rr_v d e k v) → rr_v d e k v &&& (rr_v d e k v - 1) = 0 → post (rr_c v - rr_c (rr_v d e k v)) (pm, wt, b1, b2, a3, a4, a5)) : wpX_move post (pm, wt, a1, a2, a3, a4, a5) (nI d - 24) (nI e - 24) := by
  have rd := rr_rng d hd
  have re := rr_rng e he
  refine br_f rd.1 (br_f rd.2.1 (br_f re.1 (br_t re.2.2 (rr_cnt hk hv h (rr_34 he h (fun b2 hb2 => rr_86 (fun b1 hb1 => ?_)) hk)))))
  have hV : rr_v d e k v &&& (rr_v d e k v - 1) = 0 := by
    unfold rr_v
    by_cases c : 24 ≤ k + e ∧ k + e < 48
    · rw [if_pos c]
      exact hs
    · rw [if_neg c]
      decide
  by_cases c : 24 ≤ k + e ∧ k + e < 48
  · have hP : rr_P b1 (k + e - 24) (rr_v d e k v) := by
      intro j hj
      unfold rr_v
      rw [hb1 j hj, hb2 j hj, if_pos c]
      by_cases c2 : j + 24 = k + e
      · rw [if_pos c2, if_pos (by omega)]
      · rw [if_neg c2, if_neg (by omega), rr_sh0]
    exact rr_cnt (by omega) hV hP (hp b1 b2 _ (by omega) hP hV)
  · have hP : rr_P b1 0 (rr_v d e k v) := by
      intro j hj
      unfold rr_v
      rw [hb1 j hj, hb2 j hj, if_neg c, if_neg (by omega), rr_sh0, ite_self]
    exact rr_cnt (by omega) hV hP (hp b1 b2 _ (by omega) hP hV)
theorem rr_moveB {post : Int32 → St2 → Prop} {u : St2} {x y : Int32} (h : x < -24 ∨ 24 < x ∨ y < -24 ∨ 24 < y) (hp : post (-1) u) : wpX_move post u x y := by
  obtain ⟨pm, wt, a1, a2, a3, a4, a5⟩ := u
  refine br_c (fun _ => hp) (fun c1 => br_c (fun _ => hp) (fun c2 => br_c (fun _ => hp) (fun c3 => br_c (fun c4 => ?_) (fun _ => hp))))
  rcases h with h | h | h | h
  · exact absurd h c1
  · exact absurd h c2
  · exact absurd h c3
  · exact absurd c4 (Int32.not_le.mpr h)
end
section
/-- what the law knows of the one pixel: x11 says whether it is set; then it lies at column x of row k -/
def rr_S (x0 x9 x10 x11 : Int32) (k x : Nat) (v : Int32) : Prop := (x11 = 0 ∧ v = 0) ∨ (x11 = 1 ∧ x < 24 ∧ x0 = nI (32 * k + x) ∧ x9 = nI x ∧ x10 = nI k ∧ v = rr_b x)
theorem rr_Sv {x0 x9 x10 x11 : Int32} {k x : Nat} {v : Int32} (h : rr_S x0 x9 x10 x11 k x v) : v &&& (v - 1) = 0 := by
  rcases h with ⟨_, e⟩ | ⟨_, hx, _, _, _, e⟩
  · rw [e]
    decide
  · rw [e]
    exact (rr_b_ok x hx).1
theorem rr_Sc {x0 x9 x10 x11 : Int32} {k x : Nat} {v : Int32} (h : rr_S x0 x9 x10 x11 k x v) : rr_c v = if x11 = 0 then 0 else 1 := by
  rcases h with ⟨e1, e⟩ | ⟨e1, hx, _, _, _, e⟩
  · rw [if_pos e1, rr_cp e]
  · rw [e, rr_cn (rr_b_ok x hx).2, if_neg (by rw [e1]; decide)]
theorem rr_351 {post : Int32 → St0 → Prop} {mc ms kc ks : Nat} {x11 x14 z0 z1 pm wt : Int32} {a1 a2 a3 a4 a5 : Nat → Int32} {k : Nat} {v : Int32} (hz : z1 = z0) (hk : k < 24) (hv : v &&& (v - 1) = 0) (h : rr_P a1 k v)
    (hc : rr_c v = if x11 = 0 then 0 else if x14 = 0 then 1 else 0) (hp : post 1 ()) : wL_lawOf_351 post mc ms x11 x14 z0 z1 kc ks pm wt a1 a2 a3 a4 a5 := by
  unfold wL_lawOf_351
  refine br_t hz (rr_cnt hk hv h (br_c (fun e => br_t ?_ hp) (fun e => br_c (fun e2 => br_t ?_ hp) (fun e2 => br_t ?_ hp))))
  · rw [hc, if_pos e]
  · rw [hc, if_neg e, if_pos e2]
  · rw [hc, if_neg e, if_neg e2]
theorem rr_267 {post : Int32 → St0 → Prop} {mc ms kc ks : Nat} {x4 x5 x9 x10 x11 pm wt : Int32} {a1 a2 a3 a4 a5 : Nat → Int32} {k : Nat} {v : Int32} (hr : x4 < -24 ∨ 24 < x4 ∨ x5 < -24 ∨ 24 < x5) (hk : k < 24) (hv : v &&& (v - 1) = 0) (h : rr_P a1 k v)
    (hc : rr_c v = if x11 = 0 then 0 else 1) (hp : post 1 ()) : wL_lawOf_267 post mc ms x4 x5 x9 x10 x11 kc ks pm wt a1 a2 a3 a4 a5 := by
  have key : wL_lawOf_320 post mc ms x4 x5 x11 0 kc ks pm wt a1 a2 a3 a4 a5 := by
    unfold wL_lawOf_320 wL_lawOf_321
    refine rr_moveB hr (br_t rfl (rr_351 rfl hk hv h ?_ hp))
    rw [hc, if_pos rfl]
  unfold wL_lawOf_267 wL_lawOf_268
  exact br_c (fun _ => key) (fun _ => br_t rfl key)
theorem rr_268 {post : Int32 → St0 → Prop} {mc ms kc ks : Nat} {x0 x9 x10 x11 pm wt : Int32} {a1 a2 a3 a4 a5 : Nat → Int32} {k x d e : Nat} {v : Int32} (hd : d < 49) (he : e < 49) (hk : k < 24) (h : rr_P a1 k v)
    (hS : rr_S x0 x9 x10 x11 k x v) (hp : post 1 ()) : wL_lawOf_268 post mc ms (nI d - 24) (nI e - 24) x9 x10 x11 1 kc ks pm wt a1 a2 a3 a4 a5 := by
  have hv := rr_Sv hS
  unfold wL_lawOf_268
  rcases hS with ⟨rfl, rfl⟩ | ⟨rfl, hx, _, rfl, rfl, rfl⟩
  · have ev : rr_v d e k 0 = 0 := by
      unfold rr_v
      rw [rr_sh0, ite_self]
    refine br_t rfl ?_
    unfold wL_lawOf_320 wL_lawOf_321
    refine rr_move hd he hk (by decide) (by rw [rr_sh0]; decide) h (fun b1 b2 k' hk' hP hV => br_f (by decide) (br_t rfl (rr_351 ?_ hk' hV hP ?_ hp)))
    · rw [ev]
      decide
    · rw [ev]
      decide
  · have hs := rr_b_sh x hx d hd
    have hb := (rr_b_ok x hx).2
    have cx := rr_cmp x hx d hd
    have ck := rr_cmp k hk e he
    have vA : ¬ (24 ≤ x + d ∧ x + d < 48) ∨ ¬ (24 ≤ k + e ∧ k + e < 48) → rr_v d e k (rr_b x) = 0 := by
      intro z
      unfold rr_v
      by_cases c : 24 ≤ k + e ∧ k + e < 48
      · rw [if_pos c]
        exact hs.2.mpr (by omega)
      · rw [if_neg c]
    have vB : (24 ≤ x + d ∧ x + d < 48) → (24 ≤ k + e ∧ k + e < 48) → ¬ rr_v d e k (rr_b x) = 0 := by
      intro z c
      unfold rr_v
      rw [if_pos c]
      exact fun t => hs.2.mp t z
    have A : ¬ (24 ≤ x + d ∧ x + d < 48) ∨ ¬ (24 ≤ k + e ∧ k + e < 48) → wL_lawOf_316 post mc ms (nI d - 24) (nI e - 24) 1 1 kc ks pm wt a1 a2 a3 a4 a5 := by
      intro z
      unfold wL_lawOf_316 wL_lawOf_321
      refine rr_move hd he hk hv hs.1 h (fun b1 b2 k' hk' hP hV => br_f (by decide) (br_f (by decide) (rr_351 ?_ hk' hV hP ?_ hp)))
      · rw [vA z, rr_cn hb]
        decide
      · rw [vA z]
        decide
    have B : (24 ≤ x + d ∧ x + d < 48) → (24 ≤ k + e ∧ k + e < 48) → wL_lawOf_320 post mc ms (nI d - 24) (nI e - 24) 1 1 kc ks pm wt a1 a2 a3 a4 a5 := by
      intro z z'
      unfold wL_lawOf_320 wL_lawOf_321
      refine rr_move hd he hk hv hs.1 h (fun b1 b2 k' hk' hP hV => br_f (by decide) (br_t rfl (rr_351 ?_ hk' hV hP ?_ hp)))
      · rw [rr_cn (vB z z'), rr_cn hb]
        decide
      · rw [rr_cn (vB z z')]
        decide
    refine br_f (by decide) (br_f (by decide) (br_c (fun z => A ?_) (fun z1 => br_c (fun z => A ?_) (fun z2 => br_c (fun z => A ?_) (fun z3 => br_c (fun z4 => B ?_ ?_) (fun z => A ?_))))))
    · have := cx.1.mp z
      omega
    · have := cx.2.1.mp z
      omega
    · have := ck.1.mp z
      omega
    · have t1 : ¬ x + d < 24 := fun t => z1 (cx.1.mpr t)
      have t2 : ¬ 48 ≤ x + d := fun t => z2 (cx.2.1.mpr t)
      omega
    · have t1 : ¬ k + e < 24 := fun t => z3 (ck.1.mpr t)
      have t2 := ck.2.2.mp z4
      omega
    · have t2 : ¬ k + e < 48 := fun t => z (ck.2.2.mpr t)
      omega
theorem rr_230 {post : Int32 → St0 → Prop} {mc ms kc ks : Nat} {x0 x4 x5 x9 x10 x11 z0 z1 pm wt : Int32} {a1 a2 a3 a4 a5 : Nat → Int32} {k x : Nat} {v : Int32} (hz : z1 = z0) (hk : k < 24) (h : rr_P a1 k v)
    (hS : rr_S x0 x9 x10 x11 k x v) (hp : post 1 ()) : wL_lawOf_230 post mc ms x4 x5 x9 x10 x11 z0 z1 kc ks pm wt a1 a2 a3 a4 a5 := by
  unfold wL_lawOf_230
  refine br_t hz (br_c (fun c => rr_267 (Or.inl c) hk (rr_Sv hS) h (rr_Sc hS) hp) (fun c1 => br_c (fun c => rr_267 (Or.inr (Or.inl c)) hk (rr_Sv hS) h (rr_Sc hS) hp) (fun c2 => br_c (fun c => rr_267 (Or.inr (Or.inr (Or.inl c))) hk (rr_Sv hS) h (rr_Sc hS) hp) (fun c3 => br_c (fun c => rr_267 (Or.inr (Or.inr (Or.inr c))) hk (rr_Sv hS) h (rr_Sc hS) hp) (fun c4 => ?_)))))
  obtain ⟨d, hd, rfl⟩ := rr_of c1 c2
  obtain ⟨e, he, rfl⟩ := rr_of c3 c4
  exact rr_268 hd he hk h hS hp
theorem rr_186 {post : Int32 → St0 → Prop} {mc ms kc ks : Nat} {x0 x3 x4 x5 x9 x10 x11 z0 z1 pm wt : Int32} {a1 a2 a3 a4 a5 : Nat → Int32} {k x : Nat} {v : Int32} (hz : z1 = z0) (hk : k < 24) (h : rr_P a1 k v)
    (hS : rr_S x0 x9 x10 x11 k x v) (hp : post 1 ()) : wL_lawOf_186 post mc ms x3 x4 x5 x9 x10 x11 z0 z1 kc ks pm wt a1 a2 a3 a4 a5 := by
  unfold wL_lawOf_186
  refine br_t hz ?_
  rcases pk_ix x3 (n := 24) (by omega) with c | c | ⟨j, hj, rfl⟩
  · exact br_t c (br_t c (rr_230 rfl hk h hS hp))
  · have c0 : (24 : Int32) ≤ x3 := c
    have c2 : ¬ x3 < 24 := Int32.not_lt.mpr c0
    have c3 : ¬ x3 ≤ 23 := Int32.not_le.mpr ((rr_lt24 _).mp c0)
    have c1 : ¬ x3 < 0 := by
      rw [Int32.le_iff_toInt_le, show (24 : Int32).toInt = 24 from by decide] at c0
      rw [Int32.lt_iff_toInt_lt, show (0 : Int32).toInt = 0 from by decide]
      omega
    exact br_f c1 (br_f c2 (br_f c1 (br_f c3 (rr_230 rfl hk h hS hp))))
  · refine br_f (nI_pos (by omega)) (br_t (nI_lt (b := 24) hj (by decide)) ⟨pk_in j 24 hj, ?_⟩)
    rw [nI_clamp (by omega), h j hj]
    refine br_f (nI_pos (by omega)) (br_t (nI_le (b := 23) (by omega) (by decide)) ?_)
    have hS' := hS
    rcases hS with ⟨rfl, rfl⟩ | ⟨rfl, hx, _, rfl, rfl, rfl⟩
    · exact br_t rfl (rr_230 (by rw [ite_self]) hk h hS' hp)
    · exact br_f (by decide) (pk_eq j k (fun e => rr_230 (by rw [if_pos e]; rfl) hk h hS' hp) (fun e => rr_230 (if_neg e) hk h hS' hp))
theorem rr_151 {post : Int32 → St0 → Prop} {mc ms kc ks : Nat} {x0 x2 x3 x4 x5 x7 x9 x10 x11 z0 z1 pm wt : Int32} {a1 a2 a3 a4 a5 : Nat → Int32} {k x : Nat} {v : Int32} (hz : z1 = z0) (h7 : (x7 = 1 ∧ rr_good x2) ∨ (x7 = 0 ∧ ¬ rr_good x2)) (hk : k < 24) (h : rr_P a1 k v)
    (hS : rr_S x0 x9 x10 x11 k x v) (hp : post 1 ()) : wL_lawOf_151 post mc ms x0 x2 x3 x4 x5 x7 x9 x10 x11 z0 z1 kc ks pm wt a1 a2 a3 a4 a5 := by
  unfold wL_lawOf_151
  refine br_t hz ?_
  rcases h7 with ⟨rfl, g⟩ | ⟨rfl, g⟩
  · obtain ⟨a, b, ha, hb, e0, e1, e2⟩ := rr_gnat g
    refine rr_getG g hb e1 e2 ?_
    rw [h b hb]
    refine br_f (by decide) ?_
    have hS' := hS
    rcases hS with ⟨rfl, rfl⟩ | ⟨rfl, hx, rfl, rfl, rfl, rfl⟩
    · exact br_t rfl (rr_186 (by rw [ite_self, Int32.zero_shiftRight, Int32.zero_and]) hk h hS' hp)
    · have gv := rr_b_get x hx a ha
      refine br_f (by decide) (br_c (fun e => rr_186 ?_ hk h hS' hp) (fun e => rr_186 ?_ hk h hS' hp))
      · rw [e0] at e
        have e' := (nI_eq (by omega) (by omega)).mp e
        rw [if_pos (by omega), gv, if_pos (by omega)]
      · rw [e0] at e
        have e' : ¬ 32 * b + a = 32 * k + x := fun t => e (by rw [t])
        by_cases c : b = k
        · rw [if_pos c, gv, if_neg (by omega)]
        · rw [if_neg c, Int32.zero_shiftRight, Int32.zero_and]
  · exact rr_getB g (br_t rfl (rr_186 rfl hk h hS hp))
theorem rr_init {post : St2 → Prop} (hp : post (0, 0, (fun _ => 0), (fun _ => 0), (fun _ => 0), (fun _ => 0), (fun _ => 0))) : wpX_init post 5 912 (0, 0) := by
  unfold wpX_init
  exact ⟨by decide, by decide, by decide, by decide, by decide, by decide, by decide, by decide, by decide, by decide, hp⟩
theorem rr_101 {post : Int32 → St0 → Prop} {x0 x1 x2 x3 x4 x5 x6 x7 x8 x9 x10 z0 : Int32} (h6 : (x6 = 1 ∧ rr_good x0) ∨ (x6 = 0 ∧ ¬ rr_good x0)) (h7 : (x7 = 1 ∧ rr_good x2) ∨ (x7 = 0 ∧ ¬ rr_good x2))
    (h8 : (x8 = 1 ∧ ¬ x1 < 0 ∧ ¬ 2 < x1) ∨ (x8 = 0 ∧ (x1 < 0 ∨ 2 < x1))) (h9 : x9 = x0 &&& 31) (h10 : x10 = x0 >>> ((5 : Int32) &&& 31))
    (hz : (x6 = 0 → z0 = 0) ∧ (¬ x6 = 0 → (x8 = 0 → z0 = 1) ∧ (¬ x8 = 0 → (x1 = 1 → z0 = 0) ∧ (¬ x1 = 1 → z0 = 1)))) (hp : post 1 ()) : wL_lawOf_101 post 148 2352 x0 x1 x2 x3 x4 x5 x6 x7 x8 x9 x10 z0 0 0 := by
  have key : ∀ pm : Int32, (¬ x6 = 0 → (pm = 1 → z0 = 0) ∧ (¬ pm = 1 → z0 = 1)) → ∀ F : Int32 → St2 → Prop,
      (∀ r f0 f1 b1 b2 b3 b4 b5, ((x6 = 0 → wL_lawOf_151 post 148 2352 x0 x2 x3 x4 x5 x7 x9 x10 z0 (-1) r (0 + 1 + 5) (0 + 7 + 912) f0 f1 b1 b2 b3 b4 b5) ∧ (¬ x6 = 0 → ((z0 = 0 → wL_lawOf_151 post 148 2352 x0 x2 x3 x4 x5 x7 x9 x10 z0 0 r (0 + 1 + 5) (0 + 7 + 912) f0 f1 b1 b2 b3 b4 b5) ∧ (¬ z0 = 0 → wL_lawOf_151 post 148 2352 x0 x2 x3 x4 x5 x7 x9 x10 z0 1 r (0 + 1 + 5) (0 + 7 + 912) f0 f1 b1 b2 b3 b4 b5)))) → F r (f0, f1, b1, b2, b3, b4, b5)) →
      wpX_line F (pm, 0, (fun _ => 0), (fun _ => 0), (fun _ => 0), (fun _ => 0), (fun _ => 0)) x0 x0 := by
    intro pm hpm F hF
    rcases h6 with ⟨e6, g⟩ | ⟨e6, g⟩
    · have n6 : ¬ x6 = 0 := by
        rw [e6]
        decide
      obtain ⟨x, y, hx, hy, e0, e1, e2⟩ := rr_gnat g
      refine rr_lineG g hx hy e1 e2 (fun _ _ => rfl) (fun b1 b2 hP => hF _ _ _ _ _ _ _ _ (br_f n6 ?_))
      by_cases c : pm = 1
      · have ew : rr_w pm (rr_b x) = 0 := if_pos c
        have ez := (hpm n6).1 c
        rw [ew] at hP
        rw [ew]
        exact br_t ez (rr_151 (k := y) (x := x) rfl h7 hy hP (Or.inl ⟨ez, rfl⟩) hp)
      · have ew : rr_w pm (rr_b x) = rr_b x := if_neg c
        have ez := (hpm n6).2 c
        rw [ew] at hP
        rw [ew]
        exact br_f (by rw [ez]; decide) (rr_151 (k := y) (x := x) (rr_cn (rr_b_ok x hx).2) h7 hy hP (Or.inr ⟨ez, hx, e0, h9.trans e1, h10.trans e2, rfl⟩) hp)
    · exact rr_lineB g (hF _ _ _ _ _ _ _ _ (br_t e6 (rr_151 (k := 0) (x := 0) (v := 0) rfl h7 (by omega) (fun j _ => (ite_self _).symm) (Or.inl ⟨hz.1 e6, rfl⟩) hp)))
  unfold wL_lawOf_101
  refine ⟨by omega, by omega, 5, 912, by omega, by omega, rr_init ?_⟩
  rcases h8 with ⟨e8, c1, c2⟩ | ⟨e8, c⟩
  · exact br_f c1 (br_t (Int32.not_lt.mp c2) (br_t e8.symm (key x1 (fun n6 => ((hz.2 n6).2 (by rw [e8]; decide))) _ (fun _ _ _ _ _ _ _ _ t => t))))
  · have k0 := key 0 (fun n6 => ⟨fun t => absurd t (by decide), fun _ => (hz.2 n6).1 e8⟩)
    refine br_c (fun _ => br_t e8.symm (k0 _ (fun _ _ _ _ _ _ _ _ t => t))) (fun c1 => br_f ?_ (br_t e8.symm (k0 _ (fun _ _ _ _ _ _ _ _ t => t))))
    rcases c with c | c
    · exact absurd c c1
    · exact Int32.not_le.mpr c
theorem rr_68 {post : Int32 → St0 → Prop} {x0 x1 x2 x3 x4 x5 x6 x7 x8 : Int32} (h6 : (x6 = 1 ∧ rr_good x0) ∨ (x6 = 0 ∧ ¬ rr_good x0)) (h7 : (x7 = 1 ∧ rr_good x2) ∨ (x7 = 0 ∧ ¬ rr_good x2))
    (h8 : (x8 = 1 ∧ ¬ x1 < 0 ∧ ¬ 2 < x1) ∨ (x8 = 0 ∧ (x1 < 0 ∨ 2 < x1))) (hp : post 1 ()) : wL_lawOf_68 post 148 2352 x0 x1 x2 x3 x4 x5 x6 x7 x8 0 0 := by
  unfold wL_lawOf_68
  intro x9 h9 x10 h10
  refine br_c (fun c => ?_) (fun c => br_c (fun c8 => ?_) (fun c8 => br_c (fun c1 => ?_) (fun c1 => ?_)))
  · exact rr_101 h6 h7 h8 h9 h10 ⟨fun _ => rfl, fun t => absurd c t⟩ hp
  · exact rr_101 h6 h7 h8 h9 h10 ⟨fun t => absurd t c, fun _ => ⟨fun _ => rfl, fun t => absurd c8 t⟩⟩ hp
  · exact rr_101 h6 h7 h8 h9 h10 ⟨fun t => absurd t c, fun _ => ⟨fun t => absurd t c8, fun _ => ⟨fun _ => rfl, fun t => absurd c1 t⟩⟩⟩ hp
  · exact rr_101 h6 h7 h8 h9 h10 ⟨fun t => absurd t c, fun _ => ⟨fun t => absurd t c8, fun _ => ⟨fun t => absurd t c1, fun _ => rfl⟩⟩⟩ hp
theorem rr_52 {post : Int32 → St0 → Prop} {x0 x1 x2 x3 x4 x5 x6 x7 : Int32} (h6 : (x6 = 1 ∧ rr_good x0) ∨ (x6 = 0 ∧ ¬ rr_good x0)) (h7 : (x7 = 1 ∧ rr_good x2) ∨ (x7 = 0 ∧ ¬ rr_good x2)) (hp : post 1 ()) : wL_lawOf_52 post 148 2352 x0 x1 x2 x3 x4 x5 x6 x7 0 0 := by
  unfold wL_lawOf_52
  exact br_c (fun c => rr_68 h6 h7 (Or.inr ⟨rfl, Or.inl c⟩) hp) (fun c1 => br_c (fun c => rr_68 h6 h7 (Or.inr ⟨rfl, Or.inr c⟩) hp) (fun c2 => rr_68 h6 h7 (Or.inl ⟨rfl, c1, c2⟩) hp))
theorem rr_25 {post : Int32 → St0 → Prop} {x0 x1 x2 x3 x4 x5 x6 : Int32} (h6 : (x6 = 1 ∧ rr_good x0) ∨ (x6 = 0 ∧ ¬ rr_good x0)) (hp : post 1 ()) : wL_lawOf_25 post 148 2352 x0 x1 x2 x3 x4 x5 x6 0 0 := by
  unfold wL_lawOf_25
  exact br_c (fun c => rr_52 h6 (Or.inr ⟨rfl, fun g => g.1 c⟩) hp) (fun c1 => br_c (fun c => rr_52 h6 (Or.inr ⟨rfl, fun g => g.2.1 c⟩) hp) (fun c2 => br_c (fun c => rr_52 h6 (Or.inr ⟨rfl, fun g => g.2.2 c⟩) hp) (fun c3 => rr_52 h6 (Or.inl ⟨rfl, c1, c2, c3⟩) hp)))
theorem rr_law {post : Int32 → St0 → Prop} {u : St0} {x0 x1 x2 x3 x4 x5 : Int32} (hp : post 1 ()) : wpL_lawOf post 148 2352 u x0 x1 x2 x3 x4 x5 := by
  unfold wpL_lawOf
  exact br_c (fun c => rr_25 (Or.inr ⟨rfl, fun g => g.1 c⟩) hp) (fun c1 => br_c (fun c => rr_25 (Or.inr ⟨rfl, fun g => g.2.1 c⟩) hp) (fun c2 => br_c (fun c => rr_25 (Or.inr ⟨rfl, fun g => g.2.2 c⟩) hp) (fun c3 => rr_25 (Or.inl ⟨rfl, c1, c2, c3⟩) hp)))
theorem rr_cell {post : Int32 → Prop} {L : Nat} {xs : Nat → Int32} {u : St0} {p : Int32} (i : Nat) (hL : L ≤ 6) (hi : i < 6) (e : p = nI i) (hp : ∀ z, post z) : wpL_cellAt post L xs u p :=
  pk_le L i (fun _ => hp _) (fun z => ⟨pk_in i L z e (by omega), hp _⟩) rfl e (by omega) (by omega)
end
section
theorem i_vc (xs : Nat → Int32) (L : Nat) (hL : L ≤ 6) : wpL_law (fun r => r = 1) L xs := by
  unfold wpL_law
  exact rr_cell 0 hL (by omega) rfl (fun _ => rr_cell 1 hL (by omega) rfl (fun _ => rr_cell 2 hL (by omega) rfl (fun _ => rr_cell 3 hL (by omega) rfl (fun _ => rr_cell 4 hL (by omega) rfl (fun _ => rr_cell 5 hL (by omega) rfl (fun _ => ⟨148, 2352, by omega, by omega, rr_law rfl⟩))))))
end
