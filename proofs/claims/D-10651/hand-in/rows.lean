section
/-- the loop of 'ones', at most so many turns -/
def td_go : Nat → Int32 → Int32 → Int32
  | 0, n, _ => n
  | k + 1, n, r => if r = 0 then n else td_go k (n + 1) (r &&& (r - 1))
def td_ones (r : Int32) : Int32 := td_go 17 0 r
/-- the ones of the first n rows -/
def td_sum (f : Nat → Int32) : Nat → Int32
  | 0 => 0
  | n + 1 => td_sum f n + td_ones (f n)
/-- a vertex' bit in its row -/
def td_bit (x : Nat) : Int32 := (1 : Int32) <<< ((2 * nI x) &&& 31)
/-- the word of a level line -/
def td_word (l r : Nat) : Int32 := (((1 : Int32) <<< ((nI (2 * r) + 1) &&& 31)) - ((1 : Int32) <<< (nI (2 * l) &&& 31))) &&& 43690
/-- the distance of two numbers -/
def td_d (a b : Nat) : Nat := (a - b) + (b - a)
theorem td_ones0 : td_ones 0 = 0 := by decide +kernel
theorem td_or0 (x : Int32) : (0 : Int32) ||| x = x := Int32.zero_or
theorem td_bit1 : ∀ x, x < 9 → td_ones (td_bit x) = 1 := by decide +kernel
theorem td_bitAt : ∀ x, x < 9 → ∀ i, i < 17 → ((td_bit x >>> (nI i &&& 31)) &&& 1 = 1 ↔ i = 2 * x) := by decide +kernel
theorem td_0At : ∀ i, i < 17 → ¬ ((0 : Int32) >>> (nI i &&& 31)) &&& 1 = 1 := by decide +kernel
theorem td_wordOnes : ∀ r, r < 9 → ∀ l, l < 9 → l ≤ r → td_ones (td_word l r) = nI (r - l) := by decide +kernel
theorem td_subZ : ∀ a, a < 9 → ∀ b, b < 9 → (nI a - nI b = 0 ↔ a = b) := by decide +kernel
theorem td_subP : ∀ a, a < 9 → ∀ b, b < 9 → 0 ≤ nI a - nI b → nI a - nI b = nI (td_d a b) := by decide +kernel
theorem td_subN : ∀ a, a < 9 → ∀ b, b < 9 → ¬ 0 ≤ nI a - nI b → -(nI a - nI b) = nI (td_d a b) := by decide +kernel
theorem td_ix (k i : Nat) : (17 : Int32) * nI k + nI i = nI (17 * k + i) := by
  show nI 17 * nI k + nI i = nI (17 * k + i)
  rw [pk_mul, nI_add]
theorem td_ix2 (k i : Nat) : (17 : Int32) * nI k + 2 * nI i = nI (17 * k + 2 * i) := by
  show nI 17 * nI k + nI 2 * nI i = nI (17 * k + 2 * i)
  rw [pk_mul, pk_mul, nI_add]
theorem td_2 (i : Nat) : (2 : Int32) * nI i = nI (2 * i) := by
  show nI 2 * nI i = nI (2 * i)
  rw [pk_mul]
theorem td_sum_congr {f g : Nat → Int32} : ∀ n, (∀ j, j < n → td_ones (f j) = td_ones (g j)) → td_sum f n = td_sum g n := by
  intro n
  induction n with
  | zero => intro _; rfl
  | succ n ih =>
    intro h
    show td_sum f n + td_ones (f n) = td_sum g n + td_ones (g n)
    rw [ih (fun j hj => h j (by omega)), h n (by omega)]
theorem td_sum_zero {f : Nat → Int32} (h : ∀ j, j < 17 → f j = 0) : td_sum f 17 = 0 := by
  rw [td_sum_congr (g := fun _ => 0) 17 (fun j hj => by rw [h j hj])]
  decide +kernel
theorem td_sum_one0 {f : Nat → Int32} {c : Nat} : ∀ n, (∀ j, j < n → j ≠ c → f j = 0) → td_sum f n = if c < n then td_ones (f c) else 0 := by
  intro n
  induction n with
  | zero => intro _; rw [if_neg (by omega)]; rfl
  | succ n ih =>
    intro h
    show td_sum f n + td_ones (f n) = _
    rw [ih (fun j hj => h j (by omega))]
    by_cases e : n = c
    · subst e
      rw [if_neg (by omega), if_pos (by omega), Int32.zero_add]
    · rw [h n (by omega) e, td_ones0, Int32.add_zero]
      by_cases e2 : c < n
      · rw [if_pos e2, if_pos (by omega)]
      · rw [if_neg e2, if_neg (by omega)]
theorem td_sum_one {f : Nat → Int32} {c : Nat} (hc : c < 17) (h : ∀ j, j < 17 → j ≠ c → f j = 0) : td_sum f 17 = td_ones (f c) := by
  rw [td_sum_one0 17 h, if_pos hc]
/-- the rows of an upright line -/
def td_col (w : Int32) (l i j : Nat) : Int32 := if j % 2 = 1 ∧ 2 * l < j ∧ j < 2 * i then w else 0
theorem td_sum_col1 : ∀ r, r < 9 → ∀ l, l < 9 → l ≤ r → td_sum (td_col 1 l r) 17 = nI (r - l) := by decide +kernel
theorem td_sum_col {f : Nat → Int32} {x l r : Nat} (hx : x < 9) (hr : r < 9) (hl : l ≤ r) (h : ∀ j, j < 17 → f j = td_col (td_bit x) l r j) : td_sum f 17 = nI (r - l) := by
  rw [← td_sum_col1 r hr l (by omega) hl]
  refine td_sum_congr 17 (fun j hj => ?_)
  rw [h j hj]
  unfold td_col
  by_cases e : j % 2 = 1 ∧ 2 * l < j ∧ j < 2 * r
  · rw [if_pos e, if_pos e, td_bit1 x hx]
    decide +kernel
  · rw [if_neg e, if_neg e]
end
section
/-- a slot that is none -/
def td_out (x : Int32) (n : Nat) : Prop := x < 0 ∨ nI n ≤ x
theorem td_slotOut {post : Int32 → Prop} {x : Int32} (h : td_out x 12) (H : post 0) : wpX_isSlot post () x :=
  br_c (fun _ => H) (fun z => br_t (h.elim (fun y => absurd y z) id) H)
theorem td_slotIn {post : Int32 → Prop} {k : Nat} (hk : k < 12) (H : post 1) : wpX_isSlot post () (nI k) :=
  br_f (nI_pos (by omega)) (pk_le 12 k (fun z => absurd z (by omega)) (fun _ => H))
theorem td_vertOut {post : Int32 → Prop} {x : Int32} (h : td_out x 81) (H : post 0) : wpX_isVertex post () x :=
  br_c (fun _ => H) (fun z => br_t (h.elim (fun y => absurd y z) id) H)
theorem td_vertIn {post : Int32 → Prop} {k : Nat} (hk : k < 81) (H : post 1) : wpX_isVertex post () (nI k) :=
  br_f (nI_pos (by omega)) (pk_le 81 k (fun z => absurd z (by omega)) (fun _ => H))
theorem td_ones_w {post : Int32 → Prop} {r : Int32} (H : post (td_ones r)) : wpX_ones post () r := by
  have key : ∀ (k i : Nat) (n r : Int32), i + k = 17 → post (td_go k n r) → wX_ones_6 post (k + 1) n r (nI i) := by
    intro k
    induction k with
    | zero =>
      intro i n r hi h
      exact pk_le 17 i (fun _ => h) (fun z => absurd z (by omega))
    | succ k ih =>
      intro i n r hi h
      refine pk_le 17 i (fun z => absurd z (by omega)) (fun _ => ?_)
      by_cases e : r = 0
      · refine br_t e ?_
        unfold td_go at h
        rw [if_pos e] at h
        exact h
      · refine br_f e (nm_e (nm_e (nm_r (nI_1 i) (ih (i + 1) _ _ (by omega) ?_))))
        unfold td_go at h
        rw [if_neg e] at h
        exact h
  exact ⟨18, key 17 0 0 r (by omega) H⟩
section
variable {a1 a2 a3 a4 a5 a6 : Nat → Int32} {k : Nat}
theorem td_count {post : Int32 → Prop} (hk : k < 12) (H : post (td_sum (fun j => a2 (17 * k + j)) 17)) : wpX_count post (a1, a2, a3, a4, a5, a6) (nI k) :=
  pk_loop (σ := Unit) (fun n i _ => wX_count_4 post (nI k) a1 a2 a3 a4 a5 a6 n (td_sum (fun j => a2 (17 * k + j)) i) (nI i)) (fun _ _ => True) 17 0 () (by omega) trivial
    (fun n _ _ => pk_le 17 17 (fun _ => H) (fun z => absurd z (by omega)))
    (fun n i _ hi _ hw => pk_le 17 i (fun z => absurd z (by omega)) (fun _ => ⟨pk_in (17 * k + i) 204 (by omega) (td_ix k i), td_ones_w (nm_r (e' := td_sum (fun j => a2 (17 * k + j)) (i + 1)) (by rw [td_ix, nI_clamp (by omega)]; rfl) (nm_r (nI_1 i) (hw () trivial)))⟩))
theorem td_pointOut {post : Int32 → St2 → Prop} {x y : Int32} (h : td_out x 12) (H : post (-1) (a1, a2, a3, a4, a5, a6)) : wpX_point post (a1, a2, a3, a4, a5, a6) x y := by
  unfold wpX_point
  exact td_slotOut h (br_t rfl H)
theorem td_partOut {post : Int32 → St2 → Prop} {x y z : Int32} (h : td_out x 12) (H : post (-1) (a1, a2, a3, a4, a5, a6)) : wpX_part post (a1, a2, a3, a4, a5, a6) x y z := by
  unfold wpX_part
  exact td_slotOut h (br_t rfl H)
theorem td_lineOut {post : Int32 → St2 → Prop} {x y z : Int32} (h : td_out x 12) (H : post (-1) (a1, a2, a3, a4, a5, a6)) : wpX_line post (a1, a2, a3, a4, a5, a6) x y z := by
  unfold wpX_line
  exact td_slotOut h (br_t rfl H)
theorem td_nearOut {post : Int32 → St2 → Prop} {x : Int32} (h : td_out x 12) (H : post (-1) (a1, a2, a3, a4, a5, a6)) : wpX_nearest post (a1, a2, a3, a4, a5, a6) x := by
  unfold wpX_nearest
  exact td_slotOut h (br_t rfl H)
theorem td_kindOut {post : Int32 → Prop} {x : Int32} (h : td_out x 12) (H : post (-1)) : wpX_kind post (a1, a2, a3, a4, a5, a6) x := by
  unfold wpX_kind
  exact td_slotOut h (br_t rfl H)
theorem td_sizeOut {post : Int32 → Prop} {x : Int32} (h : td_out x 12) (H : post (-1)) : wpX_size post (a1, a2, a3, a4, a5, a6) x := by
  unfold wpX_size
  exact td_slotOut h (br_t rfl H)
theorem td_cl (hk : k < 12) : (nI k).toNatClampNeg = k := nI_clamp (by omega)
theorem td_takesY {post : Int32 → Prop} {y : Int32} (hk : k < 12) (h : a1 k = 0) (H : post 1) : wpX_takes post (a1, a2, a3, a4, a5, a6) (nI k) y := by
  unfold wpX_takes
  exact ⟨pk_in k 12 hk, br_t (by rw [td_cl hk]; exact h) H⟩
theorem td_takesN {post : Int32 → Prop} {y : Int32} (hk : k < 12) (h : ¬ a1 k = 0) (h2 : ¬ a1 k = y) (H : post 0) : wpX_takes post (a1, a2, a3, a4, a5, a6) (nI k) y := by
  unfold wpX_takes
  exact ⟨pk_in k 12 hk, br_f (by rw [td_cl hk]; exact h) ⟨pk_in k 12 hk, br_f (by rw [td_cl hk]; exact h2) H⟩⟩
theorem td_pointBad {post : Int32 → St2 → Prop} {y : Int32} (hk : k < 12) (h : a1 k = 0) (hy : td_out y 81) (H : post (-4) (a1, a2, a3, a4, a5, a6)) : wpX_point post (a1, a2, a3, a4, a5, a6) (nI k) y := by
  unfold wpX_point
  exact td_slotIn hk (br_f (by decide) (td_takesY hk h (br_f (by decide) (td_vertOut hy (br_t rfl H)))))
theorem td_v9 {v : Nat} (hv : v < 81) : nI v / 9 = nI (v / 9) := pk_div (d := 9) (by omega) (by omega) (by omega)
theorem td_r9 {v : Nat} (hv : v < 81) : nI v - nI v / 9 * 9 = nI (v % 9) := pk_rem (d := 9) (by omega) (by omega) (by omega)
theorem td_point {post : Int32 → St2 → Prop} {v : Nat} (hk : k < 12) (h : a1 k = 0) (hr : ∀ j, j < 17 → a2 (17 * k + j) = 0) (hv : v < 81)
    (H : post 1 (upd a1 k 1, upd a2 (17 * k + 2 * (v % 9)) (td_bit (v / 9)), a3, a4, a5, a6)) : wpX_point post (a1, a2, a3, a4, a5, a6) (nI k) (nI v) := by
  have e1 : (17 : Int32) * nI k + 2 * (nI v - nI v / 9 * 9) = nI (17 * k + 2 * (v % 9)) := by rw [td_r9 hv, td_ix2]
  have e2 : (nI (17 * k + 2 * (v % 9))).toNatClampNeg = 17 * k + 2 * (v % 9) := nI_clamp (by omega)
  have e3 : (1 : Int32) <<< ((2 * (nI v / 9)) &&& 31) = td_bit (v / 9) := by rw [td_v9 hv]; rfl
  unfold wpX_point
  refine td_slotIn hk (br_f (by decide) (td_takesY hk h (br_f (by decide) (td_vertIn hv (br_f (by decide) ⟨pk_in k 12 hk, nm_r (e' := upd a1 k 1) (by rw [td_cl hk]) ⟨by decide, pk_in (17 * k + 2 * (v % 9)) 204 (by omega) e1, by decide, pk_in (17 * k + 2 * (v % 9)) 204 (by omega) e1, nm_r (e' := upd a2 (17 * k + 2 * (v % 9)) (td_bit (v / 9))) (by rw [e1, e2, e3, hr _ (by omega), td_or0]) ?_⟩⟩)))))
  refine td_count hk ?_
  have e4 : td_sum (fun j => upd a2 (17 * k + 2 * (v % 9)) (td_bit (v / 9)) (17 * k + j)) 17 = 1 := by
    rw [td_sum_one (c := 2 * (v % 9)) (by omega) (fun j hj hc => by rw [pk_un (by omega)]; exact hr j hj)]
    rw [pk_us]
    exact td_bit1 _ (by omega)
  rw [e4]
  exact H
theorem td_lay1 {post : St2 → Prop} (hk : k < 12) (h1 : a1 k = 1) (H : ∀ b3 b4 : Nat → Int32, (∀ j, j < 17 → b3 j = a2 (17 * k + j)) → (∀ j, j < 17 → b4 j = 0) → post (a1, a2, b3, b4, a5, a6)) :
    wpX_lay post (a1, a2, a3, a4, a5, a6) (nI k) 0 := by
  unfold wpX_lay
  refine pk_loop (σ := (Nat → Int32) × (Nat → Int32)) (fun n i s => wX_lay_2 post (nI k) 0 n (nI i) a1 a2 s.1 s.2 a5 a6) (fun i s => (∀ j, j < i → s.1 j = a2 (17 * k + j)) ∧ (∀ j, j < i → s.2 j = 0)) 17 0 (a3, a4) (by omega) ⟨fun j hj => absurd hj (by omega), fun j hj => absurd hj (by omega)⟩ ?_ ?_
  · intro n s h
    exact pk_le 17 17 (fun _ => H s.1 s.2 h.1 h.2) (fun z => absurd z (by omega))
  · intro n i s hi h hw
    have F := hw (upd s.1 i (a2 (17 * k + i)), upd s.2 i 0) ⟨fun j hj => by
        show upd s.1 i (a2 (17 * k + i)) j = _
        by_cases e : j = i
        · rw [e, pk_us]
        · rw [pk_un e]; exact h.1 j (by omega), fun j hj => by
        show upd s.2 i 0 j = _
        by_cases e : j = i
        · rw [e, pk_us]
        · rw [pk_un e]; exact h.2 j (by omega)⟩
    have ei : (nI i).toNatClampNeg = i := nI_clamp (by omega)
    have ea : a1 (nI k).toNatClampNeg = 1 := by rw [td_cl hk]; exact h1
    refine pk_le 17 i (fun z => absurd z (by omega)) (fun _ => nm_r (e' := nI i) (by rw [show (17 : Int32) * 0 = 0 from rfl, Int32.zero_add]) ⟨pk_in k 12 hk, br_f (by rw [ea]; decide) ⟨pk_in k 12 hk, br_f (by rw [ea]; decide) ⟨pk_in (17 * k + i) 204 (by omega) (td_ix k i), pk_in i 34 (by omega), nm_r (e' := upd s.1 i (a2 (17 * k + i))) (by rw [ei, td_ix, nI_clamp (by omega)]) ⟨pk_in i 34 (by omega), nm_r (e' := upd s.2 i 0) (by rw [ei]) (nm_r (nI_1 i) F)⟩⟩⟩⟩)
theorem td_partE {post : Int32 → St2 → Prop} {y z : Int32} (hk : k < 12) (h : a1 k = 0) (H : post (-2) (a1, a2, a3, a4, a5, a6)) : wpX_part post (a1, a2, a3, a4, a5, a6) (nI k) y z := by
  unfold wpX_part
  exact td_slotIn hk (br_f (by decide) ⟨pk_in k 12 hk, br_t (by rw [td_cl hk]; exact h) H⟩)
theorem td_partBad {post : Int32 → St2 → Prop} {y z : Int32} (hk : k < 12) (h : ¬ a1 k = 0) (hy : td_out y 17 ∨ td_out z 17) (H : post (-4) (a1, a2, a3, a4, a5, a6)) : wpX_part post (a1, a2, a3, a4, a5, a6) (nI k) y z := by
  unfold wpX_part
  refine td_slotIn hk (br_f (by decide) ⟨pk_in k 12 hk, br_f (by rw [td_cl hk]; exact h) (br_c (fun _ => H) (fun y0 => br_c (fun _ => H) (fun y1 => br_c (fun _ => H) (fun z0 => br_f ?_ H))))⟩)
  intro z1
  rcases hy with (t | t) | (t | t)
  · exact y0 t
  · exact y1 t
  · exact z0 t
  · exact Int32.not_lt.mpr t z1
theorem td_part {post : Int32 → St2 → Prop} {i j : Nat} (hk : k < 12) (h : a1 k = 1) (hi : i < 17) (hj : j < 17)
    (H : ∀ (b3 b4 : Nat → Int32) (r : Int32), (((a2 (17 * k + j)) >>> (nI i &&& 31)) &&& 1 = 1 → r = 0) → (¬ ((a2 (17 * k + j)) >>> (nI i &&& 31)) &&& 1 = 1 → r = 2) → post r (a1, a2, b3, b4, a5, a6)) :
    wpX_part post (a1, a2, a3, a4, a5, a6) (nI k) (nI i) (nI j) := by
  have ej : (nI j).toNatClampNeg = j := nI_clamp (by omega)
  unfold wpX_part
  refine td_slotIn hk (br_f (by decide) ⟨pk_in k 12 hk, br_f (by rw [td_cl hk, h]; decide) (br_f (nI_pos (by omega)) (pk_le 17 i (fun z => absurd z (by omega)) (fun _ => br_f (nI_pos (by omega)) (pk_lt j 17 (fun _ => ?_) (fun z => absurd z (by omega))))))⟩)
  refine td_lay1 hk h (fun b3 b4 h3 h4 => ⟨pk_in j 34 (by omega), ?_⟩)
  rw [ej, h3 j hj, h4 j hj]
  exact br_c (fun t => H b3 b4 0 (fun _ => rfl) (fun f => absurd t f)) (fun f => ⟨pk_in j 34 (by omega), br_f (td_0At i hi) (H b3 b4 2 (fun t => absurd t f) (fun _ => rfl))⟩)
theorem td_kind {post : Int32 → Prop} (hk : k < 12) (H : post (a1 k)) : wpX_kind post (a1, a2, a3, a4, a5, a6) (nI k) := by
  unfold wpX_kind
  refine td_slotIn hk (br_f (by decide) ⟨pk_in k 12 hk, ?_⟩)
  rw [td_cl hk]
  exact H
theorem td_size {post : Int32 → Prop} (hk : k < 12) (H : post (td_sum (fun j => a2 (17 * k + j)) 17)) : wpX_size post (a1, a2, a3, a4, a5, a6) (nI k) := by
  unfold wpX_size
  exact td_slotIn hk (br_f (by decide) (td_count hk H))
theorem td_near {post : Int32 → St2 → Prop} (hk : k < 12) (hO : ∀ j, j < 12 → j ≠ k → a1 j = 0) (H0 : a1 k = 0 → post (-2) (a1, a2, a3, a4, a5, a6)) (H1 : ¬ a1 k = 0 → post (-7) (a1, a2, a3, a4, a5, a6)) :
    wpX_nearest post (a1, a2, a3, a4, a5, a6) (nI k) := by
  unfold wpX_nearest
  refine td_slotIn hk (br_f (by decide) ⟨pk_in k 12 hk, ?_⟩)
  rw [td_cl hk]
  refine br_c H0 (fun h => ?_)
  exact pk_loop (σ := Unit) (fun n i _ => wX_nearest_31 post (nI k) n (-7) 1000 (nI i) a1 a2 a3 a4 a5 a6) (fun _ _ => True) 12 0 () (by omega) trivial
    (fun n _ _ => pk_le 12 12 (fun _ => H1 h) (fun z => absurd z (by omega)))
    (fun n i _ hi _ hw => pk_le 12 i (fun z => absurd z (by omega)) (fun _ => pk_eq i k (fun _ => nm_r (nI_1 i) (hw () trivial)) (fun z => ⟨pk_in i 12 hi, br_t (by rw [nI_clamp (by omega)]; exact hO i hi z) (nm_r (nI_1 i) (hw () trivial))⟩)))
end
end
section
theorem td_lesser {post : Int32 → Prop} {x u : Nat} (hx : x < 9) (hu : u < 9) (H : post (nI (min x u))) : wpX_lesser post () (nI x) (nI u) :=
  pk_le u x (fun z => by rw [show min x u = u by omega] at H; exact H) (fun z => by rw [show min x u = x by omega] at H; exact H)
theorem td_greater {post : Int32 → Prop} {x u : Nat} (hx : x < 9) (hu : u < 9) (H : post (nI (max x u))) : wpX_greater post () (nI x) (nI u) :=
  pk_le x u (fun z => by rw [show max x u = u by omega] at H; exact H) (fun z => by rw [show max x u = x by omega] at H; exact H)
theorem td_span {post : Int32 → Prop} {l r : Nat} (hl : l ≤ r) (hr : r < 9) (H : post (((1 : Int32) <<< ((nI (2 * r) + 1) &&& 31)) - ((1 : Int32) <<< (nI (2 * l) &&& 31)))) : wpX_span post () (2 * nI l) (2 * nI r) := by
  rw [td_2, td_2]
  exact pk_le (2 * l) (2 * r) (fun _ => H) (fun z => absurd z (by omega))
section
variable {post : Int32 → St2 → Prop} {a1 a2 a3 a4 a5 a6 : Nat → Int32} {k : Nat}
theorem td_lineH {x u y : Nat} {w z0 z1 : Int32} (hk : k < 12) (hr : ∀ j, j < 17 → a2 (17 * k + j) = 0) (hx : x < 9) (hu : u < 9) (hy : y < 9) (hw : nI y = w) (z : ¬ z1 = z0)
    (H : ∀ b2 : Nat → Int32, td_sum (fun j => b2 (17 * k + j)) 17 = nI (td_d x u) → post (nI (td_d x u)) (upd a1 k 2, b2, a3, a4, a5, a6)) :
    wX_line_86 post (nI k) (nI x) (nI y) (nI u) w z0 z1 a1 a2 a3 a4 a5 a6 := by
  have e : td_sum (fun j => upd a2 (17 * k + 2 * y) (td_word (min x u) (max x u)) (17 * k + j)) 17 = nI (td_d x u) := by
    rw [td_sum_one (c := 2 * y) (by omega) (fun j hj hc => by rw [pk_un (by omega)]; exact hr j hj)]
    rw [pk_us, td_wordOnes _ (by omega) _ (by omega) (by omega)]
    exact congrArg nI (by unfold td_d; omega)
  unfold wX_line_86
  refine br_f z ⟨pk_in k 12 hk, nm_r (e' := upd a1 k 2) (by rw [td_cl hk]) (br_t hw (td_lesser hx hu (td_greater hx hu ⟨pk_in (17 * k + 2 * y) 204 (by omega) (td_ix2 k y), td_span (by omega) (by omega) ⟨pk_in (17 * k + 2 * y) 204 (by omega) (td_ix2 k y), nm_r (e' := upd a2 (17 * k + 2 * y) (td_word (min x u) (max x u))) (by rw [td_ix2, nI_clamp (by omega), hr _ (by omega), td_or0]; rfl) ?_⟩⟩)))⟩
  unfold wX_line_216
  refine td_count hk ?_
  rw [e]
  exact H _ e
theorem td_lineV {x y v : Nat} {u z0 z1 : Int32} (hk : k < 12) (hr : ∀ j, j < 17 → a2 (17 * k + j) = 0) (hx : x < 9) (hy : y < 9) (hv : v < 9) (hn : y ≠ v) (z : ¬ z1 = z0)
    (H : ∀ b2 : Nat → Int32, td_sum (fun j => b2 (17 * k + j)) 17 = nI (td_d y v) → post (nI (td_d y v)) (upd a1 k 2, b2, a3, a4, a5, a6)) :
    wX_line_86 post (nI k) (nI x) (nI y) u (nI v) z0 z1 a1 a2 a3 a4 a5 a6 := by
  have hm : max y v < 9 := by omega
  have hl : min y v ≤ max y v := by omega
  have hd : max y v - min y v = td_d y v := by unfold td_d; omega
  unfold wX_line_86
  refine br_f z ⟨pk_in k 12 hk, nm_r (e' := upd a1 k 2) (by rw [td_cl hk]) (br_f (fun t => hn ((nI_eq (by omega) (by omega)).mp t)) (td_greater hy hv (nm_r (td_2 _) (td_lesser hy hv (nm_r (e' := nI (2 * min y v + 1)) (by rw [td_2, nI_1]) ?_)))))⟩
  generalize max y v = M at *
  generalize min y v = m at *
  refine pk_loop (fun n i s => wX_line_182 post (nI k) (nI x) (nI (2 * M)) n (nI (2 * i + 1)) (upd a1 k 2) s a3 a4 a5 a6) (fun i s => m ≤ i ∧ ∀ j, j < 17 → s (17 * k + j) = td_col (td_bit x) m i j) M m a2 hl ⟨Nat.le_refl _, ?_⟩ ?_ ?_
  · intro j hj
    rw [hr j hj]
    unfold td_col
    rw [if_neg (by omega)]
  · intro n s h
    have e : td_sum (fun j => s (17 * k + j)) 17 = nI (td_d y v) := by
      rw [td_sum_col (f := fun j => s (17 * k + j)) hx hm hl h.2, hd]
    refine pk_le (2 * M) (2 * M + 1) (fun _ => ?_) (fun z => absurd z (by omega))
    unfold wX_line_216
    refine td_count hk ?_
    rw [e]
    exact H s e
  · intro n i s hi h hw
    have F := hw (upd s (17 * k + (2 * i + 1)) (td_bit x)) ⟨by omega, fun j hj => by
        by_cases e : j = 2 * i + 1
        · rw [e, pk_us]
          unfold td_col
          rw [if_pos (by omega)]
        · rw [pk_un (by omega), h.2 j hj]
          unfold td_col
          by_cases c : j % 2 = 1 ∧ 2 * m < j ∧ j < 2 * i
          · rw [if_pos c, if_pos (by omega)]
          · rw [if_neg c, if_neg (by omega)]⟩
    have e0 : s (17 * k + (2 * i + 1)) = 0 := by
      rw [h.2 (2 * i + 1) (by omega)]
      unfold td_col
      rw [if_neg (by omega)]
    refine pk_le (2 * M) (2 * i + 1) (fun z => absurd z (by omega)) (fun _ => ⟨pk_in (17 * k + (2 * i + 1)) 204 (by omega) (td_ix k (2 * i + 1)), pk_in (17 * k + (2 * i + 1)) 204 (by omega) (td_ix k (2 * i + 1)), nm_r (e' := upd s (17 * k + (2 * i + 1)) (td_bit x)) (by rw [td_ix, nI_clamp (by omega), e0, td_or0]; rfl) (nm_r (e' := nI (2 * (i + 1) + 1)) ((nI_add (2 * i + 1) 2).trans (congrArg nI (by omega))) F)⟩)
theorem td_lineN {y z : Int32} (hk : k < 12) (h : a1 k = 1) (H : post (-3) (a1, a2, a3, a4, a5, a6)) : wpX_line post (a1, a2, a3, a4, a5, a6) (nI k) y z := by
  unfold wpX_line
  exact td_slotIn hk (br_f (by decide) (td_takesN hk (by rw [h]; decide) (by rw [h]; decide) (br_t rfl H)))
theorem td_inOut {f n : Nat} (hf : f < n) (hn : n < 2 ^ 31) : ¬ td_out (nI f) n := fun h => h.elim (nI_pos (by omega)) (nI_ge hf hn)
theorem td_lineBad {y z : Int32} (hk : k < 12) (h : a1 k = 0) (hy : td_out y 81 ∨ td_out z 81) (H : post (-4) (a1, a2, a3, a4, a5, a6)) : wpX_line post (a1, a2, a3, a4, a5, a6) (nI k) y z := by
  unfold wpX_line
  refine td_slotIn hk (br_f (by decide) (td_takesY hk h (br_f (by decide) ?_)))
  rcases pk_ix y (n := 81) (by omega) with t | t | ⟨f, hf, rfl⟩
  · exact td_vertOut (Or.inl t) (br_t rfl H)
  · exact td_vertOut (Or.inr t) (br_t rfl H)
  · exact td_vertIn hf (br_f (by decide) (td_vertOut (hy.elim (fun t => absurd t (td_inOut hf (by omega))) id) (br_t rfl H)))
theorem td_line5 {f t : Nat} (hk : k < 12) (h : a1 k = 0) (hf : f < 81) (ht : t < 81) (hc : f / 9 = t / 9 ↔ f % 9 = t % 9) (H : post (-5) (a1, a2, a3, a4, a5, a6)) : wpX_line post (a1, a2, a3, a4, a5, a6) (nI k) (nI f) (nI t) := by
  unfold wpX_line
  refine td_slotIn hk (br_f (by decide) (td_takesY hk h (br_f (by decide) (td_vertIn hf (br_f (by decide) (td_vertIn ht (br_f (by decide) ⟨by decide, nm_r (td_v9 hf) ⟨by decide, nm_r (td_r9 hf) ⟨by decide, nm_r (td_v9 ht) ⟨by decide, nm_r (td_r9 ht) ?_⟩⟩⟩⟩)))))))
  refine pk_eq (f / 9) (t / 9) (fun e => ?_) (fun e => ?_)
  · unfold wX_line_74
    refine pk_eq (f % 9) (t % 9) (fun e' => ?_) (fun e' => absurd (hc.mp e) e')
    unfold wX_line_86
    exact br_t rfl H
  · unfold wX_line_74
    refine pk_eq (f % 9) (t % 9) (fun e' => absurd (hc.mpr e') e) (fun e' => ?_)
    unfold wX_line_86
    exact br_t rfl H
theorem td_lineGood {f t D : Nat} (hk : k < 12) (h : a1 k = 0) (hr : ∀ j, j < 17 → a2 (17 * k + j) = 0) (hf : f < 81) (ht : t < 81)
    (hc : (f / 9 = t / 9 ∧ f % 9 ≠ t % 9 ∧ D = td_d (f % 9) (t % 9)) ∨ (f / 9 ≠ t / 9 ∧ f % 9 = t % 9 ∧ D = td_d (f / 9) (t / 9)))
    (H : ∀ b2 : Nat → Int32, td_sum (fun j => b2 (17 * k + j)) 17 = nI D → post (nI D) (upd a1 k 2, b2, a3, a4, a5, a6)) : wpX_line post (a1, a2, a3, a4, a5, a6) (nI k) (nI f) (nI t) := by
  unfold wpX_line
  refine td_slotIn hk (br_f (by decide) (td_takesY hk h (br_f (by decide) (td_vertIn hf (br_f (by decide) (td_vertIn ht (br_f (by decide) ⟨by decide, nm_r (td_v9 hf) ⟨by decide, nm_r (td_r9 hf) ⟨by decide, nm_r (td_v9 ht) ⟨by decide, nm_r (td_r9 ht) ?_⟩⟩⟩⟩)))))))
  rcases hc with ⟨c1, c2, rfl⟩ | ⟨c1, c2, rfl⟩
  · refine pk_eq (f / 9) (t / 9) (fun e => ?_) (fun e => absurd c1 e)
    unfold wX_line_74
    refine pk_eq (f % 9) (t % 9) (fun e' => absurd e' c2) (fun e' => ?_)
    exact td_lineV hk hr (by omega) (by omega) (by omega) c2 (by decide) H
  · refine pk_eq (f / 9) (t / 9) (fun e => absurd e c1) (fun e => ?_)
    unfold wX_line_74
    refine pk_eq (f % 9) (t % 9) (fun e' => ?_) (fun e' => absurd c2 e')
    exact td_lineH hk hr (by omega) (by omega) (by omega) (by rw [c2]) (by decide) H
end
end
section
theorem td_gtN {n : Nat} {x : Int32} (hn : n + 1 < 2 ^ 31) (h : nI n < x) : nI (n + 1) ≤ x := by
  rw [Int32.le_iff_toInt_le, nI_toInt hn]
  rw [Int32.lt_iff_toInt_lt, nI_toInt (by omega)] at h
  omega
section
variable {post : Int32 → St0 → Prop} {mc ms kc ks k : Nat} {a1 a2 a3 a4 a5 a6 : Nat → Int32}
theorem td_489 {z : Int32} (hp : post 1 ()) : wL_lawOf_489 post mc ms z z kc ks := br_t rfl hp
theorem td_206any {x x2 x3 x7 x9 z : Int32} (H : ∀ x12 z0 : Int32, wL_lawOf_321 post mc ms x x2 x3 x7 x9 x12 z0 kc ks a1 a2 a3 a4 a5 a6) : wL_lawOf_206 post mc ms x x2 x3 x7 x9 z z kc ks a1 a2 a3 a4 a5 a6 := by
  have h276 : ∀ x12 x13 z0 : Int32, wL_lawOf_276 post mc ms x x2 x3 x7 x9 x12 x13 z0 kc ks a1 a2 a3 a4 a5 a6 := fun x12 x13 z0 =>
    br_c (fun _ => br_c (fun _ => H _ _) (fun _ => H _ _)) (fun _ => br_c (fun _ => br_c (fun _ => H _ _) (fun _ => H _ _)) (fun _ => H _ _))
  have h256 : ∀ x12 z0 : Int32, wL_lawOf_256 post mc ms x x2 x3 x7 x9 x12 z0 kc ks a1 a2 a3 a4 a5 a6 := fun x12 z0 =>
    br_c (fun _ => h276 _ _ _) (fun _ => ⟨by decide, by decide, h276 _ _ _⟩)
  have h236 : ∀ z0 : Int32, wL_lawOf_236 post mc ms x x2 x3 x7 x9 z0 kc ks a1 a2 a3 a4 a5 a6 := fun z0 =>
    br_c (fun _ => h256 _ _) (fun _ => ⟨by decide, by decide, h256 _ _⟩)
  have h235 : wL_lawOf_235 post mc ms x x2 x3 x7 x9 kc ks a1 a2 a3 a4 a5 a6 := h236 0
  exact br_t rfl (br_c (fun _ => h235) (fun _ => br_c (fun _ => h235) (fun _ => br_c (fun _ => h235) (fun _ => br_c (fun _ => h235) (fun _ => h236 1)))))
theorem td_89any {x x1 x2 x3 x4 x5 x7 : Int32} (H : ∀ x10 : Int32, wL_lawOf_155 post mc ms x x2 x3 x4 x5 x7 0 x10 0 kc ks a1 a2 a3 a4 a5 a6) : wL_lawOf_89 post mc ms x x1 x2 x3 x4 x5 x7 kc ks a1 a2 a3 a4 a5 a6 := by
  have h121 : ∀ z0 : Int32, wL_lawOf_121 post mc ms x x1 x2 x3 x4 x5 x7 0 z0 kc ks a1 a2 a3 a4 a5 a6 := fun z0 => br_t rfl (H z0)
  have h120 : wL_lawOf_120 post mc ms x x1 x2 x3 x4 x5 x7 0 kc ks a1 a2 a3 a4 a5 a6 := h121 0
  unfold wL_lawOf_89
  exact br_c (fun _ => h120) (fun _ => br_c (fun _ => h120) (fun _ => br_c (fun _ => h120) (fun _ => br_c (fun _ => h120) (fun _ => h121 1))))
/-! A: no slot -/
theorem td_457A {x x17 z : Int32} (hp : post 1 ()) (ho : td_out x 12) : wL_lawOf_457 post mc ms x 0 x17 z z kc ks a1 a2 a3 a4 a5 a6 :=
  br_t rfl (td_nearOut ho (br_t rfl (td_489 hp)))
theorem td_409A {x x9 x16 : Int32} (hp : post 1 ()) (ho : td_out x 12) : wL_lawOf_409 post mc ms x 0 x9 x16 (-1) kc ks a1 a2 a3 a4 a5 a6 := by
  unfold wL_lawOf_409
  exact td_kindOut ho (br_t rfl (td_sizeOut ho (br_t rfl (td_457A hp ho))))
theorem td_321A {x x2 x3 x9 x12 z0 : Int32} (hp : post 1 ()) (ho : td_out x 12) : wL_lawOf_321 post mc ms x x2 x3 0 x9 x12 z0 kc ks a1 a2 a3 a4 a5 a6 := by
  refine br_t rfl ?_
  unfold wL_lawOf_364
  exact td_lineOut ho (br_t rfl (br_t rfl (td_409A hp ho)))
theorem td_155A {x x2 x3 x4 x5 x9 x10 z0 : Int32} (hp : post 1 ()) (ho : td_out x 12) : wL_lawOf_155 post mc ms x x2 x3 x4 x5 0 x9 x10 z0 kc ks a1 a2 a3 a4 a5 a6 := by
  unfold wL_lawOf_155
  exact td_partOut ho (br_t rfl (td_206any (fun _ _ => td_321A hp ho)))
theorem td_41A {x x1 x2 x3 x4 x5 z0 : Int32} (hp : post 1 ()) (ho : td_out x 12) : wL_lawOf_41 post mc ms x x1 x2 x3 x4 x5 0 z0 kc ks a1 a2 a3 a4 a5 a6 := by
  unfold wL_lawOf_41
  exact td_pointOut ho (br_t rfl (br_t rfl (br_t rfl (td_89any (fun _ => td_155A hp ho)))))
theorem td_23A {x x1 x2 x3 x4 x5 : Int32} (hp : post 1 ()) (ho : td_out x 12) : wL_lawOf_23 post mc ms x x1 x2 x3 x4 x5 kc ks a1 a2 a3 a4 a5 a6 := by
  unfold wL_lawOf_23
  exact br_c (fun _ => td_41A hp ho) (fun _ => br_c (fun _ => td_41A hp ho) (fun _ => td_41A hp ho))
/-! the last checks, for a good slot -/
theorem td_457 {S : Int32} (hp : post 1 ()) (hk : k < 12) (hO : ∀ j, j < 12 → j ≠ k → a1 j = 0) : wL_lawOf_457 post mc ms (nI k) 1 (a1 k) S S kc ks a1 a2 a3 a4 a5 a6 :=
  br_t rfl (td_near hk hO (fun h => br_f (by decide) (br_t h (td_489 hp))) (fun h => br_f (by decide) (br_f h (td_489 hp))))
theorem td_409 {x9 x16 K S : Int32} (hp : post 1 ()) (hk : k < 12) (hO : ∀ j, j < 12 → j ≠ k → a1 j = 0) (hK : a1 k = K) (hS : td_sum (fun j => a2 (17 * k + j)) 17 = S)
    (hz : (x9 = 0 ∧ x16 ≤ 0 ∧ S = 0) ∨ (x9 = 0 ∧ ¬ x16 ≤ 0 ∧ S = x16) ∨ (¬ x9 = 0 ∧ S = 1)) : wL_lawOf_409 post mc ms (nI k) 1 x9 x16 K kc ks a1 a2 a3 a4 a5 a6 := by
  subst hK
  unfold wL_lawOf_409
  refine td_kind hk (br_t rfl (td_size hk (br_f (by decide) ?_)))
  rw [hS]
  rcases hz with ⟨h9, h16, e⟩ | ⟨h9, h16, e⟩ | ⟨h9, e⟩
  · rw [e]
    exact br_t h9 (br_t h16 (td_457 hp hk hO))
  · rw [e]
    exact br_t h9 (br_f h16 (td_457 hp hk hO))
  · rw [e]
    exact br_f h9 (td_457 hp hk hO)
/-! C: a good slot and a good vertex -/
theorem td_321C {x2 x3 x12 z0 : Int32} (hp : post 1 ()) (hk : k < 12) (h1 : a1 k = 1) (hO : ∀ j, j < 12 → j ≠ k → a1 j = 0) (hS : td_sum (fun j => a2 (17 * k + j)) 17 = 1) : wL_lawOf_321 post mc ms (nI k) x2 x3 1 1 x12 z0 kc ks a1 a2 a3 a4 a5 a6 := by
  refine br_f (by decide) (br_f (by decide) ?_)
  unfold wL_lawOf_364
  exact td_lineN hk h1 (br_t rfl (br_f (by decide) (br_f (by decide) (td_409 hp hk hO h1 hS (Or.inr (Or.inr ⟨by decide, rfl⟩))))))
theorem td_155Cbad {x2 x3 x4 x5 z0 : Int32} (hp : post 1 ()) (hk : k < 12) (h1 : a1 k = 1) (hO : ∀ j, j < 12 → j ≠ k → a1 j = 0) (hS : td_sum (fun j => a2 (17 * k + j)) 17 = 1) (hy : td_out x4 17 ∨ td_out x5 17) :
    wL_lawOf_155 post mc ms (nI k) x2 x3 x4 x5 1 1 0 z0 kc ks a1 a2 a3 a4 a5 a6 := by
  unfold wL_lawOf_155
  exact td_partBad hk (by rw [h1]; decide) hy (br_f (by decide) (br_f (by decide) (br_t rfl (td_206any (fun _ _ => td_321C hp hk h1 hO hS)))))
theorem td_155C {x2 x3 z0 : Int32} {i j : Nat} (hp : post 1 ()) (hk : k < 12) (h1 : a1 k = 1) (hO : ∀ j, j < 12 → j ≠ k → a1 j = 0) (hS : td_sum (fun j => a2 (17 * k + j)) 17 = 1) (hi : i < 17) (hj : j < 17)
    (hz : (((a2 (17 * k + j)) >>> (nI i &&& 31)) &&& 1 = 1 ∧ ¬ z0 = 0) ∨ (¬ ((a2 (17 * k + j)) >>> (nI i &&& 31)) &&& 1 = 1 ∧ z0 = 0)) :
    wL_lawOf_155 post mc ms (nI k) x2 x3 (nI i) (nI j) 1 1 1 z0 kc ks a1 a2 a3 a4 a5 a6 := by
  unfold wL_lawOf_155
  refine td_part hk h1 hi hj (fun b3 b4 r r0 r2 => br_f (by decide) (br_f (by decide) (br_f (by decide) ?_)))
  rcases hz with ⟨t, e⟩ | ⟨t, e⟩
  · rw [r0 t]
    exact br_f e (td_206any (fun _ _ => td_321C hp hk h1 hO hS))
  · rw [r2 t]
    exact br_t e (td_206any (fun _ _ => td_321C hp hk h1 hO hS))
theorem td_121bad {x1 x2 x3 x4 x5 : Int32} (hp : post 1 ()) (hk : k < 12) (h1 : a1 k = 1) (hO : ∀ j, j < 12 → j ≠ k → a1 j = 0) (hS : td_sum (fun j => a2 (17 * k + j)) 17 = 1) (hy : td_out x4 17 ∨ td_out x5 17) :
    wL_lawOf_120 post mc ms (nI k) x1 x2 x3 x4 x5 1 1 kc ks a1 a2 a3 a4 a5 a6 := by
  unfold wL_lawOf_120 wL_lawOf_121
  exact br_f (by decide) ⟨by decide, br_c (fun _ => ⟨by decide, br_c (fun _ => td_155Cbad hp hk h1 hO hS hy) (fun _ => td_155Cbad hp hk h1 hO hS hy)⟩) (fun _ => td_155Cbad hp hk h1 hO hS hy)⟩
theorem td_121 {x2 x3 : Int32} {v i j : Nat} (hp : post 1 ()) (hk : k < 12) (h1 : a1 k = 1) (hO : ∀ j, j < 12 → j ≠ k → a1 j = 0) (hS : td_sum (fun j => a2 (17 * k + j)) 17 = 1) (hv : v < 81) (hi : i < 17) (hj : j < 17)
    (hB : ∀ j, j < 17 → a2 (17 * k + j) = if j = 2 * (v % 9) then td_bit (v / 9) else 0) :
    wL_lawOf_121 post mc ms (nI k) (nI v) x2 x3 (nI i) (nI j) 1 1 1 kc ks a1 a2 a3 a4 a5 a6 := by
  have e1 : (2 : Int32) * (nI v / 9) = nI (2 * (v / 9)) := by rw [td_v9 hv, td_2]
  have e2 : (2 : Int32) * (nI v - nI v / 9 * 9) = nI (2 * (v % 9)) := by rw [td_r9 hv, td_2]
  unfold wL_lawOf_121
  refine br_f (by decide) ⟨by decide, pk_eq i (2 * (v / 9)) (fun ei => ⟨by decide, pk_eq j (2 * (v % 9)) (fun ej => ?_) (fun ej => ?_) rfl e2⟩) (fun ei => ?_) rfl e1⟩
  · refine td_155C hp hk h1 hO hS hi hj (Or.inl ⟨?_, by decide⟩)
    rw [hB j hj, if_pos ej]
    exact (td_bitAt _ (by omega) _ hi).mpr ei
  · refine td_155C hp hk h1 hO hS hi hj (Or.inr ⟨?_, rfl⟩)
    rw [hB j hj, if_neg ej]
    exact td_0At i hi
  · refine td_155C hp hk h1 hO hS hi hj (Or.inr ⟨?_, rfl⟩)
    rw [hB j hj]
    by_cases ej : j = 2 * (v % 9)
    · rw [if_pos ej]
      exact fun t => ei ((td_bitAt _ (by omega) _ hi).mp t)
    · rw [if_neg ej]
      exact td_0At i hi
theorem td_90C {x2 x3 x4 x5 : Int32} {v : Nat} (hp : post 1 ()) (hk : k < 12) (h1 : a1 k = 1) (hO : ∀ j, j < 12 → j ≠ k → a1 j = 0) (hS : td_sum (fun j => a2 (17 * k + j)) 17 = 1) (hv : v < 81)
    (hB : ∀ j, j < 17 → a2 (17 * k + j) = if j = 2 * (v % 9) then td_bit (v / 9) else 0) :
    wL_lawOf_90 post mc ms (nI k) (nI v) x2 x3 x4 x5 1 1 kc ks a1 a2 a3 a4 a5 a6 := by
  unfold wL_lawOf_90
  refine br_c (fun h => td_121bad hp hk h1 hO hS (Or.inl (Or.inl h))) (fun y0 => br_c (fun h => td_121bad hp hk h1 hO hS (Or.inl (Or.inr (td_gtN (n := 16) (by omega) h)))) (fun y1 => br_c (fun h => td_121bad hp hk h1 hO hS (Or.inr (Or.inl h))) (fun z0 => br_c (fun h => td_121bad hp hk h1 hO hS (Or.inr (Or.inr (td_gtN (n := 16) (by omega) h)))) (fun z1 => ?_))))
  obtain ⟨i, hi, rfl⟩ := nI_of2 (M := 16) (n := 16) (by decide) y0 (Int32.not_lt.mp y1)
  obtain ⟨j, hj, rfl⟩ := nI_of2 (M := 16) (n := 16) (by decide) z0 (Int32.not_lt.mp z1)
  exact td_121 hp hk h1 hO hS hv (by omega) (by omega) hB
theorem td_41C {x2 x3 x4 x5 : Int32} {v : Nat} (hp : post 1 ()) (hk : k < 12) (h0 : ∀ j, j < 12 → a1 j = 0) (hr : ∀ j, j < 17 → a2 (17 * k + j) = 0) (hv : v < 81) :
    wL_lawOf_41 post mc ms (nI k) (nI v) x2 x3 x4 x5 1 1 kc ks a1 a2 a3 a4 a5 a6 := by
  unfold wL_lawOf_41
  refine td_point hk (h0 k hk) hr hv (br_f (by decide) (br_f (by decide) (br_t rfl (br_f (by decide) (br_f (by decide) ?_)))))
  refine td_90C hp hk pk_us (fun j hj hn => by rw [pk_un hn]; exact h0 j hj) ?_ hv ?_
  · rw [td_sum_one (c := 2 * (v % 9)) (by omega) (fun j hj hc => by rw [pk_un (by omega)]; exact hr j hj)]
    rw [pk_us]
    exact td_bit1 _ (by omega)
  · intro j hj
    by_cases e : j = 2 * (v % 9)
    · rw [if_pos e, e, pk_us]
    · rw [if_neg e, pk_un (by omega)]
      exact hr j hj
/-! B: a good slot, no vertex -/
theorem td_235B {x2 x3 : Int32} (hp : post 1 ()) (hk : k < 12) (h0 : ∀ j, j < 12 → a1 j = 0) (hr : ∀ j, j < 17 → a2 (17 * k + j) = 0) (hy : td_out x2 81 ∨ td_out x3 81) :
    wL_lawOf_235 post mc ms (nI k) x2 x3 1 0 kc ks a1 a2 a3 a4 a5 a6 := by
  have h364 : wL_lawOf_364 post mc ms (nI k) x2 x3 1 0 (-4) kc ks a1 a2 a3 a4 a5 a6 := by
    unfold wL_lawOf_364
    exact td_lineBad hk (h0 k hk) hy (br_t rfl (br_f (by decide) (br_t rfl (br_t (by decide) (td_409 hp hk (fun j hj _ => h0 j hj) (h0 k hk) (td_sum_zero hr) (Or.inl ⟨rfl, by decide, rfl⟩))))))
  have h321 : wL_lawOf_321 post mc ms (nI k) x2 x3 1 0 0 0 kc ks a1 a2 a3 a4 a5 a6 := br_f (by decide) (br_t rfl (br_t rfl h364))
  have h276 : wL_lawOf_276 post mc ms (nI k) x2 x3 1 0 0 0 0 kc ks a1 a2 a3 a4 a5 a6 := br_t rfl (br_t (by decide) h321)
  have h256 : wL_lawOf_256 post mc ms (nI k) x2 x3 1 0 0 0 kc ks a1 a2 a3 a4 a5 a6 := br_t rfl h276
  exact br_t rfl h256
theorem td_321B {f t D : Nat} (hp : post 1 ()) (hk : k < 12) (h0 : ∀ j, j < 12 → a1 j = 0) (hr : ∀ j, j < 17 → a2 (17 * k + j) = 0) (hf : f < 81) (ht : t < 81)
    (hD : D = if f / 9 = t / 9 then td_d (f % 9) (t % 9) else if f % 9 = t % 9 then td_d (f / 9) (t / 9) else 0) :
    wL_lawOf_321 post mc ms (nI k) (nI f) (nI t) 1 0 1 (nI D) kc ks a1 a2 a3 a4 a5 a6 := by
  have hD9 : D < 9 := by
    rw [hD]
    unfold td_d
    split
    · omega
    · split <;> omega
  refine br_f (by decide) (br_t rfl (br_f (by decide) (pk_eq D 0 (fun e => ?_) (fun e => ?_))))
  · have hc : f / 9 = t / 9 ↔ f % 9 = t % 9 := by
      rw [e] at hD
      unfold td_d at hD
      by_cases c1 : f / 9 = t / 9
      · rw [if_pos c1] at hD
        omega
      · rw [if_neg c1] at hD
        by_cases c2 : f % 9 = t % 9
        · rw [if_pos c2] at hD
          omega
        · exact ⟨fun z => absurd z c1, fun z => absurd z c2⟩
    unfold wL_lawOf_364
    exact td_line5 hk (h0 k hk) hf ht hc (br_t rfl (br_f (by decide) (br_t rfl (br_t (by decide) (td_409 hp hk (fun j hj _ => h0 j hj) (h0 k hk) (td_sum_zero hr) (Or.inl ⟨rfl, by decide, rfl⟩))))))
  · have hc : (f / 9 = t / 9 ∧ f % 9 ≠ t % 9 ∧ D = td_d (f % 9) (t % 9)) ∨ (f / 9 ≠ t / 9 ∧ f % 9 = t % 9 ∧ D = td_d (f / 9) (t / 9)) := by
      by_cases c1 : f / 9 = t / 9
      · rw [if_pos c1] at hD
        refine Or.inl ⟨c1, fun c2 => ?_, hD⟩
        unfold td_d at hD
        omega
      · rw [if_neg c1] at hD
        by_cases c2 : f % 9 = t % 9
        · rw [if_pos c2] at hD
          exact Or.inr ⟨c1, c2, hD⟩
        · rw [if_neg c2] at hD
          exact absurd hD e
    have hle : ¬ nI D ≤ 0 := nI_nle (by omega) (by omega)
    unfold wL_lawOf_364
    refine td_lineGood hk (h0 k hk) hr hf ht hc (fun b2 hb => br_t rfl (br_f (by decide) (br_t rfl (br_f hle (td_409 hp hk (fun j hj hn => ?_) pk_us hb (Or.inr (Or.inl ⟨rfl, hle, rfl⟩)))))))
    rw [pk_un hn]
    exact h0 j hj
theorem td_276B {f t : Nat} {x13 z0 : Int32} (hp : post 1 ()) (hk : k < 12) (h0 : ∀ j, j < 12 → a1 j = 0) (hr : ∀ j, j < 17 → a2 (17 * k + j) = 0) (hf : f < 81) (ht : t < 81)
    (hx : x13 = nI (f / 9) - nI (t / 9)) (hz : z0 = nI (f % 9) - nI (t % 9)) :
    wL_lawOf_276 post mc ms (nI k) (nI f) (nI t) 1 0 1 x13 z0 kc ks a1 a2 a3 a4 a5 a6 := by
  have f9 : f / 9 < 9 := by omega
  have t9 : t / 9 < 9 := by omega
  have fm : f % 9 < 9 := by omega
  have tm : t % 9 < 9 := by omega
  have hX : x13 = 0 ↔ f / 9 = t / 9 := by rw [hx]; exact td_subZ _ f9 _ t9
  have hZ : z0 = 0 ↔ f % 9 = t % 9 := by rw [hz]; exact td_subZ _ fm _ tm
  unfold wL_lawOf_276
  refine br_c (fun e => br_c (fun p => ?_) (fun p => ?_)) (fun e => br_c (fun e2 => br_c (fun p => ?_) (fun p => ?_)) (fun e2 => ?_))
  · rw [show z0 = nI (td_d (f % 9) (t % 9)) by rw [hz] at p ⊢; exact td_subP _ fm _ tm p]
    exact td_321B hp hk h0 hr hf ht (by rw [if_pos (hX.mp e)])
  · rw [show -z0 = nI (td_d (f % 9) (t % 9)) by rw [hz] at p ⊢; exact td_subN _ fm _ tm p]
    exact td_321B hp hk h0 hr hf ht (by rw [if_pos (hX.mp e)])
  · rw [show x13 = nI (td_d (f / 9) (t / 9)) by rw [hx] at p ⊢; exact td_subP _ f9 _ t9 p]
    exact td_321B hp hk h0 hr hf ht (by rw [if_neg (fun c => e (hX.mpr c)), if_pos (hZ.mp e2)])
  · rw [show -x13 = nI (td_d (f / 9) (t / 9)) by rw [hx] at p ⊢; exact td_subN _ f9 _ t9 p]
    exact td_321B hp hk h0 hr hf ht (by rw [if_neg (fun c => e (hX.mpr c)), if_pos (hZ.mp e2)])
  · exact td_321B (D := 0) hp hk h0 hr hf ht (by rw [if_neg (fun c => e (hX.mpr c)), if_neg (fun c => e2 (hZ.mpr c))])
theorem td_206B {x2 x3 z : Int32} (hp : post 1 ()) (hk : k < 12) (h0 : ∀ j, j < 12 → a1 j = 0) (hr : ∀ j, j < 17 → a2 (17 * k + j) = 0) :
    wL_lawOf_206 post mc ms (nI k) x2 x3 1 0 z z kc ks a1 a2 a3 a4 a5 a6 := by
  unfold wL_lawOf_206
  refine br_t rfl (br_c (fun h => td_235B hp hk h0 hr (Or.inl (Or.inl h))) (fun y0 => br_c (fun h => td_235B hp hk h0 hr (Or.inl (Or.inr (td_gtN (n := 80) (by omega) h)))) (fun y1 => br_c (fun h => td_235B hp hk h0 hr (Or.inr (Or.inl h))) (fun z0 => br_c (fun h => td_235B hp hk h0 hr (Or.inr (Or.inr (td_gtN (n := 80) (by omega) h)))) (fun z1 => ?_)))))
  obtain ⟨f, hf, rfl⟩ := nI_of2 (M := 80) (n := 80) (by decide) y0 (Int32.not_lt.mp y1)
  obtain ⟨t, ht, rfl⟩ := nI_of2 (M := 80) (n := 80) (by decide) z0 (Int32.not_lt.mp z1)
  have hf : f < 81 := by omega
  have ht : t < 81 := by omega
  unfold wL_lawOf_236 wL_lawOf_256
  exact br_f (by decide) ⟨by decide, by decide, br_f (by decide) ⟨by decide, by decide, td_276B hp hk h0 hr hf ht (by rw [td_v9 hf, td_v9 ht]) (by rw [td_r9 hf, td_r9 ht])⟩⟩
theorem td_155B {x2 x3 x4 x5 x10 z0 : Int32} (hp : post 1 ()) (hk : k < 12) (h0 : ∀ j, j < 12 → a1 j = 0) (hr : ∀ j, j < 17 → a2 (17 * k + j) = 0) :
    wL_lawOf_155 post mc ms (nI k) x2 x3 x4 x5 1 0 x10 z0 kc ks a1 a2 a3 a4 a5 a6 := by
  unfold wL_lawOf_155
  exact td_partE hk (h0 k hk) (br_f (by decide) (br_t rfl (td_206B hp hk h0 hr)))
theorem td_41B {x1 x2 x3 x4 x5 : Int32} (hp : post 1 ()) (hk : k < 12) (h0 : ∀ j, j < 12 → a1 j = 0) (hr : ∀ j, j < 17 → a2 (17 * k + j) = 0) (hy : td_out x1 81) :
    wL_lawOf_41 post mc ms (nI k) x1 x2 x3 x4 x5 1 0 kc ks a1 a2 a3 a4 a5 a6 := by
  unfold wL_lawOf_41
  exact td_pointBad hk (h0 k hk) hy (br_f (by decide) (br_t rfl (br_t rfl (br_f (by decide) (br_t rfl (td_89any (fun _ => td_155B hp hk h0 hr)))))))
theorem td_24 {x1 x2 x3 x4 x5 : Int32} (hp : post 1 ()) (hk : k < 12) (h0 : ∀ j, j < 12 → a1 j = 0) (hr : ∀ j, j < 17 → a2 (17 * k + j) = 0) :
    wL_lawOf_24 post mc ms (nI k) x1 x2 x3 x4 x5 1 kc ks a1 a2 a3 a4 a5 a6 := by
  unfold wL_lawOf_24
  refine br_c (fun h => td_41B hp hk h0 hr (Or.inl h)) (fun y0 => br_c (fun h => td_41B hp hk h0 hr (Or.inr (td_gtN (n := 80) (by omega) h))) (fun y1 => ?_))
  obtain ⟨v, hv, rfl⟩ := nI_of2 (M := 80) (n := 80) (by decide) y0 (Int32.not_lt.mp y1)
  exact td_41C hp hk h0 hr (by omega)
end
end
section
theorem td_init {post : St2 → Prop} {mc ms : Nat} (h1 : 6 ≤ mc) (h2 : 318 ≤ ms) (H : post (upd (fun _ => 0) 0 0, (fun _ => 0), (fun _ => 0), (fun _ => 0), (fun _ => 0), (fun _ => 0))) : wpX_init post mc ms () :=
  ⟨by omega, by omega, by omega, by omega, by omega, by omega, by omega, by omega, by omega, by omega, by omega, by omega, nm_e H⟩
theorem td_lawOf {post : Int32 → St0 → Prop} {p0 p1 p2 p3 p4 p5 : Int32} (hp : post 1 ()) : wpL_lawOf post 178 2832 () p0 p1 p2 p3 p4 p5 := by
  unfold wpL_lawOf
  refine ⟨by omega, by omega, 100, 1000, by omega, by omega, td_init (by omega) (by omega) (br_c (fun h => td_23A hp (Or.inl h)) (fun y0 => br_c (fun h => td_23A hp (Or.inr (td_gtN (n := 11) (by omega) h))) (fun y1 => ?_)))⟩
  obtain ⟨k, hk, rfl⟩ := nI_of2 (M := 11) (n := 11) (by decide) y0 (Int32.not_lt.mp y1)
  refine td_24 hp (by omega) (fun j _ => ?_) (fun j _ => rfl)
  by_cases e : j = 0
  · rw [e, pk_us]
  · rw [pk_un e]
theorem td_cell {post : Int32 → Prop} {L : Nat} {xs : Nat → Int32} {p : Int32} (i : Nat) (hi : i < 6) (hL : L ≤ 6) (H : ∀ r, post r) (hp : p = nI i := by rfl) : wpL_cellAt post L xs () p := by
  subst hp
  exact pk_le L i (fun _ => H 0) (fun z => ⟨pk_in i L z, H _⟩)
theorem i_vc (xs : Nat → Int32) (L : Nat) (hL : L ≤ 6) : wpL_law (fun r => r = 1) L xs := by
  unfold wpL_law
  exact td_cell 0 (by omega) hL (fun r1 => td_cell 1 (by omega) hL (fun r2 => td_cell 2 (by omega) hL (fun r3 => td_cell 3 (by omega) hL (fun r4 => td_cell 4 (by omega) hL (fun r5 => td_cell 5 (by omega) hL (fun r6 => ⟨178, 2832, by omega, by omega, td_lawOf rfl⟩))))))
end
