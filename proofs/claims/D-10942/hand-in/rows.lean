section
/-- the law's own count of the six low bits -/
def pb_n (x : Int32) : Int32 := (((((x &&& 1) + ((x >>> ((1 : Int32) &&& 31)) &&& 1)) + ((x >>> ((2 : Int32) &&& 31)) &&& 1)) + ((x >>> ((3 : Int32) &&& 31)) &&& 1)) + ((x >>> ((4 : Int32) &&& 31)) &&& 1)) + ((x >>> ((5 : Int32) &&& 31)) &&& 1)
/-- a piece without its point p -/
def pb_side (x : Int32) (p : Nat) : Int32 := x &&& (((1 : Int32) <<< (nI p &&& 31)) ^^^ (-1))
def pb_good (x : Int32) : Prop := ¬ x < 1 ∧ ¬ 63 < x ∧ ¬ 5 ≤ pb_n x
theorem pb_sideIn : ∀ k, k < 64 → ∀ p, p < 6 → 0 ≤ (pb_side (nI k) p).toInt ∧ (pb_side (nI k) p).toInt < 64 := by decide +kernel
theorem pb_one : ∀ k, k < 64 → pb_n (nI k) = 1 → ∀ p, p < 6 → pb_side (nI k) p = nI k ∨ pb_side (nI k) p = 0 := by decide +kernel
def pb_ok (k q p : Nat) : Prop := pb_side (nI k) p = nI k ∨ pb_side (nI k) p = 0 ∨ (pb_side (nI k) p).toNatClampNeg = q
theorem pb_manyB : (List.range 64).all (fun k => (List.range 64).all (fun q => k == 0 || pb_n (nI k) == 1 || pb_n (nI q) != 1 || (List.range 6).any (fun p => !(pb_side (nI k) p == nI k || pb_side (nI k) p == 0 || (pb_side (nI k) p).toNatClampNeg == q)))) = true := by decide +kernel
theorem pb_many (k : Nat) (hk : k < 64) (h1 : 1 ≤ k) (hn : ¬ pb_n (nI k) = 1) (q : Nat) (hq : q < 64) (hm : pb_n (nI q) = 1) : ¬ ∀ p, p < 6 → pb_ok k q p := by
  intro H
  have A := List.all_eq_true.mp (List.all_eq_true.mp pb_manyB k (List.mem_range.mpr hk)) q (List.mem_range.mpr hq)
  have k0 : (k == 0) = false := by simp; omega
  have k1 : (pb_n (nI k) == 1) = false := by simp [hn]
  have k2 : (pb_n (nI q) != 1) = false := by simp [hm]
  rw [k0, k1, k2, Bool.false_or, Bool.false_or, Bool.false_or] at A
  obtain ⟨p, hp, e⟩ := List.any_eq_true.mp A
  rcases H p (List.mem_range.mp hp) with z | z | z
  · rw [z] at e
    simp at e
  · rw [z] at e
    simp at e
  · rw [z] at e
    simp at e
theorem pb_k {x : Int32} (h1 : ¬ x < 1) (h2 : ¬ 63 < x) : ∃ k, 1 ≤ k ∧ k < 64 ∧ x = nI k := by
  rw [Int32.lt_iff_toInt_lt] at h1 h2
  have e1 : (1 : Int32).toInt = 1 := by decide
  have e2 : (63 : Int32).toInt = 63 := by decide
  refine ⟨x.toInt.toNat, by omega, by omega, Int32.toInt_inj.mp ?_⟩
  rw [nI_toInt (by omega)]
  omega
theorem pb_45 {a : Int32} : 4 < a ↔ 5 ≤ a := by
  rw [Int32.lt_iff_toInt_lt, Int32.le_iff_toInt_le]
  have e1 : (4 : Int32).toInt = 4 := by decide
  have e2 : (5 : Int32).toInt = 5 := by decide
  omega
theorem pb_nl {a b : Int32} (h : ¬ a < b) : b ≤ a := by
  rw [Int32.lt_iff_toInt_lt] at h
  rw [Int32.le_iff_toInt_le]
  omega
theorem pb_nle {a b : Int32} (h : ¬ a ≤ b) : b < a := by
  rw [Int32.le_iff_toInt_le] at h
  rw [Int32.lt_iff_toInt_lt]
  omega
theorem pb_ln {a b : Int32} (h : a < b) : ¬ b ≤ a := by
  rw [Int32.lt_iff_toInt_lt] at h
  rw [Int32.le_iff_toInt_le]
  omega
/-- an int from 0 up to a small number -/
theorem pb_upto {x : Int32} {c : Nat} (hc : c < 2 ^ 31) (h1 : ¬ x < 0) (h2 : x ≤ nI c) : ∃ j, j ≤ c ∧ x = nI j :=
  nI_of2 (nI_toInt hc) h1 h2
theorem pb_fill {f : Int32} {s : Nat → Int32} {i k : Nat} (hk : k = i) (h : ∀ j, j < i → s j = f) : ∀ j, j < i + 1 → upd s k f j = f := by
  intro j hj
  rw [hk]
  by_cases e : j = i
  · rw [e, pk_us]
  · rw [pk_un e]
    exact h j (by omega)
/-- the state against the picture: c pieces (0 or 1), the one piece q -/
def pb_S (c q : Nat) (f s : Int32) (a1 a2 a3 a4 a5 : Nat → Int32) : Prop := f = nI c ∧ c ≤ 1 ∧ q < 64 ∧ pb_n (nI q) = 1 ∧ (c = 1 → a1 0 = nI q) ∧ (∀ j, j < 64 → a2 j = if c = 1 ∧ j = q then 0 else -2) ∧ ∃ d, d ≤ c ∧ s = nI d ∧ (d = 1 → a3 0 = 0 ∧ a4 0 = -2 ∧ a5 0 = -2)
theorem pb_S0 {a1 a2 a3 a4 a5 : Nat → Int32} (h : ∀ j, j < 64 → a2 j = -2) : pb_S 0 1 0 0 a1 a2 a3 a4 a5 :=
  ⟨rfl, by omega, by omega, by decide, fun z => absurd z (by omega), fun j hj => by rw [if_neg (fun z => absurd z.1 (by omega))]; exact h j hj, 0, Nat.le_refl 0, rfl, fun z => absurd z (by omega)⟩
theorem pb_S1 {k q : Nat} {f s : Int32} {a1 a2 a3 a4 a5 : Nat → Int32} (h : pb_S 0 q f s a1 a2 a3 a4 a5) (hk : k < 64) (hn : pb_n (nI k) = 1) : pb_S 1 k (f + 1) s (upd a1 f.toNatClampNeg (nI k)) (upd a2 (nI k).toNatClampNeg f) a3 a4 a5 := by
  obtain ⟨rfl, _, _, _, _, h2, d, hd, rfl, h5⟩ := h
  rw [nI_clamp (show 0 < 2 ^ 31 by omega), nI_clamp (show k < 2 ^ 31 by omega)]
  refine ⟨nI_1 0, by omega, hk, hn, fun _ => pk_us, fun j hj => ?_, d, by omega, rfl, h5⟩
  by_cases e : j = k
  · rw [if_pos ⟨rfl, e⟩, e, pk_us]
    rfl
  · rw [if_neg (fun z => e z.2), pk_un e, h2 j hj, if_neg (fun z => absurd z.1 (by omega))]
theorem pb_SD {c q : Nat} {f s : Int32} {a1 a2 a3 a4 a5 b3 b4 b5 : Nat → Int32} (h : pb_S c q f s a1 a2 a3 a4 a5) (hb : c = 1 → b3 0 = 0 ∧ b4 0 = -2 ∧ b5 0 = -2) : pb_S c q f f a1 a2 b3 b4 b5 := by
  obtain ⟨rfl, h1, h2, h3, h4, h5, _⟩ := h
  exact ⟨rfl, h1, h2, h3, h4, h5, c, Nat.le_refl c, rfl, hb⟩
end
section
theorem pb_init {post : St2 → Prop} (hp : ∀ a2 : Nat → Int32, (∀ j, j < 64 → a2 j = -2) → post (0, 0, (fun _ => 0), a2, (fun _ => 0), (fun _ => 0), (fun _ => 0))) : wpX_init post 5 168 (0, 0) := by
  unfold wpX_init
  dsimp only
  refine ⟨by omega, by omega, by omega, by omega, by omega, by omega, by omega, by omega, by omega, by omega, ?_⟩
  exact pk_loop (fun n i s => wX_init_46 post 5 168 5 168 0 0 n (nI i) (fun _ => 0) s (fun _ => 0) (fun _ => 0) (fun _ => 0)) (fun i s => ∀ j, j < i → s j = -2) 64 0 (fun _ => 0) (by omega) (fun j hj => absurd hj (by omega))
    (fun n s h => pk_le 64 64 (fun _ => hp s h) (fun z => absurd z (by omega)))
    (fun n i s hi h hw => pk_le 64 i (fun z => absurd z (by omega)) (fun _ => ⟨pk_in i 64 hi, nm_e (nm_r (nI_1 i) (hw _ (pb_fill (nI_clamp (by omega)) h)))⟩))
theorem pb_pts {post : Int32 → Prop} {x : Int32} (h : post (pb_n x)) : wpX_points post () x := by
  have e : 0 + ((x >>> ((0 : Int32) &&& 31)) &&& 1) = x &&& 1 := by rw [sb_shr0, Int32.zero_add]
  refine Exists.intro 7 ?_
  refine br_f (by decide) (nm_r e (nm_r (e' := 1) (by decide) ?_))
  refine br_f (by decide) (nm_e (nm_r (e' := 2) (by decide) ?_))
  refine br_f (by decide) (nm_e (nm_r (e' := 3) (by decide) ?_))
  refine br_f (by decide) (nm_e (nm_r (e' := 4) (by decide) ?_))
  refine br_f (by decide) (nm_e (nm_r (e' := 5) (by decide) ?_))
  refine br_f (by decide) (nm_e (nm_r (e' := 6) (by decide) ?_))
  exact br_t (by decide) h
theorem pb_isP {post : Int32 → Prop} {x : Int32} (h1 : pb_good x → post 1) (h0 : ¬ pb_good x → post 0) : wpX_isPiece post () x :=
  br_c (fun z => h0 (fun g => g.1 z)) (fun z => br_c (fun y => h0 (fun g => g.2.1 y)) (fun y => pb_pts (br_c (fun w => h0 (fun g => g.2.2 (pb_45.mp w))) (fun w => h1 ⟨z, y, fun v => w (pb_45.mpr v)⟩))))
theorem pb_hs {post : Int32 → Prop} {x f s : Int32} {a1 a2 a3 a4 a5 : Nat → Int32} (hin : ∀ p, p < 6 → vp_in (pb_side x p) 64)
    (h1 : (∀ p, p < 6 → pb_side x p = x ∨ pb_side x p = 0 ∨ 0 ≤ a2 (pb_side x p).toNatClampNeg) → post 1)
    (h0 : (∃ p, p < 6 ∧ ¬ pb_side x p = x ∧ ¬ pb_side x p = 0 ∧ ¬ 0 ≤ a2 (pb_side x p).toNatClampNeg) → post 0) : wpX_hasSides post (f, s, a1, a2, a3, a4, a5) x :=
  pk_loop (σ := Unit) (fun n i _ => wX_hasSides_2 post x f s a1 a2 a3 a4 a5 n (nI i)) (fun i _ => ∀ p, p < i → pb_side x p = x ∨ pb_side x p = 0 ∨ 0 ≤ a2 (pb_side x p).toNatClampNeg) 6 0 () (by omega) (fun j hj => absurd hj (by omega))
    (fun n _ h => pk_le 6 6 (fun _ => h1 h) (fun z => absurd z (by omega)))
    (fun n i _ hi h hw => pk_le 6 i (fun z => absurd z (by omega)) (fun _ => nm_r (e' := pb_side x i) rfl
      (br_c (fun z => nm_r (nI_1 i) (hw () (lt_s h (Or.inl z))))
        (fun z => br_c (fun y => nm_r (nI_1 i) (hw () (lt_s h (Or.inr (Or.inl y)))))
          (fun y => ⟨hin i hi, br_c (fun w => nm_r (nI_1 i) (hw () (lt_s h (Or.inr (Or.inr w))))) (fun w => h0 ⟨i, hi, z, y, w⟩)⟩)))))
theorem pb_sides {post : Int32 → Prop} {q : Nat} {f s : Int32} {a1 a2 a3 a4 a5 : Nat → Int32} (ha : a1 0 = nI q) (hs : ∀ p, p < 6 → pb_side (nI q) p = nI q ∨ pb_side (nI q) p = 0) (hp : post 0) : wpX_sidesOf post (f, s, a1, a2, a3, a4, a5) 0 := by
  have ha' : a1 (0 : Int32).toNatClampNeg = nI q := by rw [sb_cl0]; exact ha
  exact pk_loop (σ := Unit) (fun n i _ => wX_sidesOf_4 post 0 f s a1 a2 a3 a4 a5 n 0 (nI i)) (fun _ _ => True) 6 0 () (by omega) trivial
    (fun n _ h => pk_le 6 6 (fun _ => hp) (fun z => absurd z (by omega)))
    (fun n i _ hi h hw => pk_le 6 i (fun z => absurd z (by omega)) (fun _ => ⟨pk_in 0 26 (by omega), nm_r (e' := pb_side (nI q) i) (by rw [ha']; rfl) ⟨pk_in 0 26 (by omega),
      br_c (fun z => nm_r (nI_1 i) (hw () trivial)) (fun z => br_t ((hs i hi).resolve_left (fun e => z (e.trans ha'.symm))) (nm_r (nI_1 i) (hw () trivial)))⟩⟩))
theorem pb_dim {post : Int32 → Prop} {q : Nat} {f s : Int32} {a1 a2 a3 a4 a5 : Nat → Int32} (ha : a1 0 = nI q) (hn : pb_n (nI q) = 1) (hp : post 0) : wpX_dimension post (f, s, a1, a2, a3, a4, a5) 0 := by
  have ha' : a1 (0 : Int32).toNatClampNeg = nI q := by rw [sb_cl0]; exact ha
  refine And.intro (pk_in 0 26 (by omega)) (pb_pts ?_)
  show post (pb_n (a1 (0 : Int32).toNatClampNeg) - 1)
  rw [ha', hn, show (1 : Int32) - 1 = 0 from by decide]
  exact hp
theorem pb_isG {post : Int32 → Prop} {c : Nat} {s : Int32} {a1 a2 a3 a4 a5 : Nat → Int32} (hc : c ≤ 1) (h0 : c = 0 → post 0) (h1 : c = 1 → post 1) : wpX_isGood post (nI c, s, a1, a2, a3, a4, a5) 0 :=
  br_f (by decide) (pk_le c 0 (fun z => h0 (by omega)) (fun z => h1 (by omega)))
theorem pb_solve {post : St2 → Prop} {c q : Nat} {f s : Int32} {a1 a2 a3 a4 a5 : Nat → Int32} (h : pb_S c q f s a1 a2 a3 a4 a5) (hp : ∀ b3 b4 b5 : Nat → Int32, (c = 1 → b3 0 = 0 ∧ b4 0 = -2 ∧ b5 0 = -2) → post (f, f, a1, a2, b3, b4, b5)) : wpX_solve post (f, s, a1, a2, a3, a4, a5) := by
  obtain ⟨rfl, hc, hq, hn, ha, h2, d, hd, rfl, h5⟩ := h
  by_cases e : d = c
  · subst e
    exact Exists.intro 1 (pk_le d d (fun _ => hp a3 a4 a5 h5) (fun z => absurd z (by omega)))
  · have hd0 : d = 0 := by omega
    have hc1 : c = 1 := by omega
    subst hd0 hc1
    refine Exists.intro 2 (pk_le 1 0 (fun z => absurd z (by omega)) (fun _ => ⟨pk_in 0 26 (by omega), nm_e ⟨pk_in 0 26 (by omega), nm_e ?_⟩⟩))
    refine pb_sides (q := q) (ha rfl) (pb_one q hq hn) ?_
    refine Exists.intro 1 (br_f (by decide) (br_t rfl ?_))
    refine And.intro (pk_in 0 26 (by omega)) (nm_e (br_t rfl (nm_r (nI_1 0) ?_)))
    exact pk_le 1 1 (fun _ => hp _ _ _ (fun _ => ⟨rfl, rfl, rfl⟩)) (fun z => absurd z (by omega))
end
section
theorem pb_add {post : Int32 → St2 → Prop} {c q : Nat} {x f s : Int32} {a1 a2 a3 a4 a5 : Nat → Int32} (h : pb_S c q f s a1 a2 a3 a4 a5)
    (h0 : ¬ pb_good x → post (-1) (f, s, a1, a2, a3, a4, a5))
    (h2 : pb_good x → (c = 1 ∧ x = nI q) → post (-2) (f, s, a1, a2, a3, a4, a5))
    (h3 : pb_good x → ¬ (c = 1 ∧ x = nI q) → ¬ pb_n x = 1 → post (-3) (f, s, a1, a2, a3, a4, a5))
    (h4 : pb_good x → ¬ (c = 1 ∧ x = nI q) → pb_n x = 1 → post (nI c) (f + 1, s, upd a1 f.toNatClampNeg x, upd a2 x.toNatClampNeg f, a3, a4, a5)) : wpX_add post (f, s, a1, a2, a3, a4, a5) x := by
  unfold wpX_add
  refine pb_isP (fun g => ?_) (fun g => br_t rfl (h0 g))
  obtain ⟨k, hk1, hk, rfl⟩ := pb_k g.1 g.2.1
  obtain ⟨rfl, hc, hq, hn, ha, hpl, d, hd, rfl, h5⟩ := h
  have ek : (nI k).toNatClampNeg = k := nI_clamp (by omega)
  have inj : nI k = nI q ↔ k = q := nI_eq (by omega) (by omega)
  refine br_f (by decide) ⟨pk_in k 64 hk, ?_⟩
  by_cases e : c = 1 ∧ nI k = nI q
  · refine br_f ?_ (h2 g e)
    rw [ek, hpl k hk, if_pos ⟨e.1, inj.mp e.2⟩]
    decide
  · refine br_t ?_ ?_
    · rw [ek, hpl k hk, if_neg (fun z => e ⟨z.1, inj.mpr z.2⟩)]
      decide
    · refine pb_hs (fun p hp => vp_in_iff.mpr (pb_sideIn k hk p hp)) (fun hall => ?_) (fun hex => ?_)
      · have n1 : pb_n (nI k) = 1 := by
          by_cases n1 : pb_n (nI k) = 1
          · exact n1
          · refine absurd (fun p hp => ?_) (pb_many k hk hk1 n1 q hq hn)
            rcases hall p hp with z | z | z
            · exact Or.inl z
            · exact Or.inr (Or.inl z)
            · refine Or.inr (Or.inr ?_)
              obtain ⟨j, hj, ej⟩ := vp_in_of (n := 64) (vp_in_iff.mpr (pb_sideIn k hk p hp)) (by decide)
              have ej' : (pb_side (nI k) p).toNatClampNeg = j := by rw [ej]; exact nI_clamp (by omega)
              rw [ej'] at z
              rw [ej']
              by_cases e3 : j = q
              · exact e3
              · rw [hpl j hj, if_neg (fun y => e3 y.2)] at z
                exact absurd z (by decide)
        refine br_f (by decide) (pk_eq c 26 (fun z => absurd z (by omega)) (fun _ => ?_))
        refine And.intro (pk_in c 26 (by omega)) (nm_e ⟨pk_in k 64 hk, nm_e (nm_e ?_)⟩)
        show post (nI c + 1 - 1) _
        rw [nI_1, nI_pred, ← nI_1]
        exact h4 g e n1
      · refine br_t rfl (h3 g e (fun n1 => ?_))
        obtain ⟨p, hp, e1, e2, _⟩ := hex
        rcases pb_one k hk n1 p hp with z | z
        · exact e1 z
        · exact e2 z
theorem pb_piece {post : Int32 → Prop} {c q : Nat} {f s : Int32} {a1 a2 a3 a4 a5 : Nat → Int32} (h : pb_S c q f s a1 a2 a3 a4 a5) (h0 : c = 0 → post (-1)) (h1 : c = 1 → post (nI q)) : wpX_piece post (f, s, a1, a2, a3, a4, a5) 0 := by
  obtain ⟨rfl, hc, hq, hn, ha, hpl, d, hd, rfl, h5⟩ := h
  unfold wpX_piece
  refine pb_isG hc (fun z => br_t rfl (h0 z)) (fun z => br_f (by decide) ⟨pk_in 0 26 (by omega), ?_⟩)
  rw [sb_cl0, ha z]
  exact h1 z
theorem pb_partner {post : Int32 → St2 → Prop} {c q : Nat} {f s : Int32} {a1 a2 a3 a4 a5 : Nat → Int32} (h : pb_S c q f s a1 a2 a3 a4 a5) (h0 : c = 0 → post (-1) (f, s, a1, a2, a3, a4, a5)) (h1 : c = 1 → ∀ b3 b4 b5 : Nat → Int32, (c = 1 → b3 0 = 0 ∧ b4 0 = -2 ∧ b5 0 = -2) → post (-2) (f, f, a1, a2, b3, b4, b5)) : wpX_partner post (f, s, a1, a2, a3, a4, a5) 0 := by
  have hc := h.2.1
  have hf := h.1
  unfold wpX_partner
  subst hf
  refine pb_isG hc (fun z => br_t rfl (h0 z)) (fun z => br_f (by decide) (pb_solve h (fun b3 b4 b5 hb => ?_)))
  refine And.intro (pk_in 0 26 (by omega)) ?_
  have e : b4 (0 : Int32).toNatClampNeg = -2 := by rw [sb_cl0]; exact (hb z).2.1
  rw [e]
  exact h1 z b3 b4 b5 hb
theorem pb_living {post : Int32 → St2 → Prop} {c q : Nat} {t k f s : Int32} {a1 a2 a3 a4 a5 : Nat → Int32} (h : pb_S c q f s a1 a2 a3 a4 a5) (ht : ¬ t < 0) (ht2 : t ≤ f)
    (hp : ∀ b3 b4 b5 : Nat → Int32, (c = 1 → b3 0 = 0 ∧ b4 0 = -2 ∧ b5 0 = -2) → post (if t = 1 ∧ k = 0 then 1 else 0) (f, f, a1, a2, b3, b4, b5)) : wpX_living post (f, s, a1, a2, a3, a4, a5) t t k := by
  have hc := h.2.1
  have hf := h.1
  have hn := h.2.2.2.1
  have ha := h.2.2.2.2.1
  unfold wpX_living
  subst hf
  refine pb_solve h (fun b3 b4 b5 hb => ?_)
  have hp' := hp b3 b4 b5 hb
  obtain ⟨j, hj, rfl⟩ := pb_upto (by omega) ht ht2
  by_cases e : j = 0
  · subst e
    rw [if_neg (fun z => absurd z.1 (by decide))] at hp'
    exact Exists.intro 1 (pk_le 0 0 (fun _ => hp') (fun z => absurd z (by omega)))
  · have ej : j = 1 := by omega
    have ec : c = 1 := by omega
    subst ej ec
    obtain ⟨g3, g4, g5⟩ := hb rfl
    have e3 : b3 (0 : Int32).toNatClampNeg = 0 := by rw [sb_cl0]; exact g3
    have e4 : b4 (0 : Int32).toNatClampNeg = -2 := by rw [sb_cl0]; exact g4
    refine Exists.intro 2 (pk_le 1 0 (fun z => absurd z (by omega)) (fun _ => ⟨pk_in 0 26 (by omega), br_t (by rw [e4]; decide) ?_⟩))
    unfold wX_living_41 wX_living_42
    refine pb_dim (ha rfl) hn ?_
    refine (br_c (fun z => ⟨pk_in 0 26 (by omega), br_t e3 (br_t rfl (nm_r (e' := 1) (by decide) (nm_r (nI_1 0) ?_)))⟩) (fun z => nm_r (e' := 0) (by decide) (nm_r (nI_1 0) ?_)))
    · rw [if_pos ⟨rfl, z.symm⟩] at hp'
      exact pk_le 1 1 (fun _ => hp') (fun z => absurd z (by omega))
    · rw [if_neg (fun y => z y.2.symm)] at hp'
      exact pk_le 1 1 (fun _ => hp') (fun z => absurd z (by omega))
theorem pb_holes {post : Int32 → St2 → Prop} {c q : Nat} {t k f s : Int32} {a1 a2 a3 a4 a5 : Nat → Int32} (h : pb_S c q f s a1 a2 a3 a4 a5)
    (h1 : (t < 0 ∨ f < t) → post (-1) (f, s, a1, a2, a3, a4, a5))
    (h2 : ¬ (t < 0 ∨ f < t) → (k < 0 ∨ 3 < k) → post (-2) (f, s, a1, a2, a3, a4, a5))
    (h3 : ¬ (t < 0 ∨ f < t) → ¬ (k < 0 ∨ 3 < k) → ∀ b3 b4 b5 : Nat → Int32, (c = 1 → b3 0 = 0 ∧ b4 0 = -2 ∧ b5 0 = -2) → post (if t = 1 ∧ k = 0 then 1 else 0) (f, f, a1, a2, b3, b4, b5)) : wpX_holes post (f, s, a1, a2, a3, a4, a5) t k :=
  br_c (fun z => h1 (Or.inl z)) (fun z => br_c (fun y =>
    have ty : ¬ (t < 0 ∨ f < t) := fun w => w.elim z (fun v => pb_ln v y)
    br_c (fun x => h2 ty (Or.inl x)) (fun x => br_c (fun w => pb_living h z y (fun b3 b4 b5 hb => h3 ty (fun v => v.elim x (fun v' => pb_ln v' w)) b3 b4 b5 hb)) (fun w => h2 ty (Or.inr (pb_nle w))))) (fun y => h1 (Or.inr (pb_nle y))))
theorem pb_euler {post : Int32 → Prop} {c q : Nat} {t f s : Int32} {a1 a2 a3 a4 a5 : Nat → Int32} (h : pb_S c q f s a1 a2 a3 a4 a5)
    (h1 : (t < 0 ∨ f < t) → post (-1000)) (h2 : ¬ (t < 0 ∨ f < t) → post t) : wpX_euler post (f, s, a1, a2, a3, a4, a5) t := by
  have hc := h.2.1
  have hf := h.1
  have hn := h.2.2.2.1
  have ha := h.2.2.2.2.1
  subst hf
  refine br_c (fun z => h1 (Or.inl z)) (fun z => br_c (fun y => ?_) (fun y => h1 (Or.inr (pb_nle y))))
  have hp' := h2 (fun w => w.elim z (fun v => pb_ln v y))
  obtain ⟨j, hj, rfl⟩ := pb_upto (by omega) z y
  by_cases e : j = 0
  · subst e
    exact Exists.intro 1 (pk_le 0 0 (fun _ => hp') (fun z => absurd z (by omega)))
  · have ej : j = 1 := by omega
    have ec : c = 1 := by omega
    subst ej ec
    refine Exists.intro 2 (pk_le 1 0 (fun z => absurd z (by omega)) (fun _ => ?_))
    refine pb_dim (ha rfl) hn (br_t (by decide) (nm_r (nI_1 0) (nm_r (nI_1 0) ?_)))
    exact pk_le 1 1 (fun _ => hp') (fun z => absurd z (by omega))
theorem pb_isC {post : Int32 → Prop} {y f s : Int32} {a1 a2 a3 a4 a5 : Nat → Int32} (h0 : (y < 0 ∨ (1 : Int32) <<< (f &&& 31) ≤ y) → post 0) (h1 : ¬ (y < 0 ∨ (1 : Int32) <<< (f &&& 31) ≤ y) → post 1) : wpX_isChain post (f, s, a1, a2, a3, a4, a5) y :=
  br_c (fun z => h0 (Or.inl z)) (fun z => br_c (fun w => h0 (Or.inr w)) (fun w => h1 (fun v => v.elim z w)))
theorem pb_isE {post : Int32 → Prop} {c q : Nat} {y f s : Int32} {a1 a2 a3 a4 a5 : Nat → Int32} (h : pb_S c q f s a1 a2 a3 a4 a5) (hp : post 1) : wpX_isEven post (f, s, a1, a2, a3, a4, a5) y := by
  have hc := h.2.1
  have hf := h.1
  have hn := h.2.2.2.1
  have ha := h.2.2.2.2.1
  subst hf
  by_cases e : c = 0
  · subst e
    exact Exists.intro 1 (pk_le 0 0 (fun _ => hp) (fun z => absurd z (by omega)))
  · have ec : c = 1 := by omega
    subst ec
    refine Exists.intro 2 (pk_le 1 0 (fun z => absurd z (by omega)) (fun _ => br_c (fun z => ?_) (fun z => nm_r (nI_1 0) ?_)))
    · refine pb_dim (ha rfl) hn (br_t rfl (nm_r (nI_1 0) ?_))
      exact pk_le 1 1 (fun _ => hp) (fun z => absurd z (by omega))
    · exact pk_le 1 1 (fun _ => hp) (fun z => absurd z (by omega))
theorem pb_bord {post : Int32 → Prop} {c q : Nat} {y f s : Int32} {a1 a2 a3 a4 a5 : Nat → Int32} (h : pb_S c q f s a1 a2 a3 a4 a5) (hp : post 0) : wpX_borderOf post (f, s, a1, a2, a3, a4, a5) y := by
  have hc := h.2.1
  have hf := h.1
  have hq := h.2.2.1
  have hn := h.2.2.2.1
  have ha := h.2.2.2.2.1
  subst hf
  by_cases e : c = 0
  · subst e
    exact Exists.intro 1 (pk_le 0 0 (fun _ => hp) (fun z => absurd z (by omega)))
  · have ec : c = 1 := by omega
    subst ec
    refine Exists.intro 2 (pk_le 1 0 (fun z => absurd z (by omega)) (fun _ => br_c (fun z => ?_) (fun z => nm_r (nI_1 0) ?_)))
    · refine pb_sides (q := q) (ha rfl) (pb_one q hq hn) (nm_r (e' := 0) (by decide) (nm_r (nI_1 0) ?_))
      exact pk_le 1 1 (fun _ => hp) (fun z => absurd z (by omega))
    · exact pk_le 1 1 (fun _ => hp) (fun z => absurd z (by omega))
theorem pb_ch {c : Nat} {y : Int32} (hc : c ≤ 1) (h : ¬ (y < 0 ∨ (1 : Int32) <<< (nI c &&& 31) ≤ y)) : y = 0 ∨ (c = 1 ∧ y = 1) := by
  have h1 : ¬ y < 0 := fun z => h (Or.inl z)
  have h2 : y < (1 : Int32) <<< (nI c &&& 31) := pb_nle (fun z => h (Or.inr z))
  have hc' : c = 0 ∨ c = 1 := by omega
  rcases hc' with rfl | rfl
  · rw [show (1 : Int32) <<< (nI 0 &&& 31) = 1 from by decide] at h2
    left
    rw [Int32.lt_iff_toInt_lt] at h1 h2
    rw [show (1 : Int32).toInt = 1 from by decide] at h2
    rw [show (0 : Int32).toInt = 0 from by decide] at h1
    apply Int32.toInt_inj.mp
    rw [show (0 : Int32).toInt = 0 from by decide]
    omega
  · rw [show (1 : Int32) <<< (nI 1 &&& 31) = 2 from by decide] at h2
    rw [Int32.lt_iff_toInt_lt] at h1 h2
    rw [show (2 : Int32).toInt = 2 from by decide] at h2
    rw [show (0 : Int32).toInt = 0 from by decide] at h1
    by_cases e : y.toInt = 0
    · left
      apply Int32.toInt_inj.mp
      rw [show (0 : Int32).toInt = 0 from by decide]
      exact e
    · right
      refine ⟨rfl, Int32.toInt_inj.mp ?_⟩
      rw [show (1 : Int32).toInt = 1 from by decide]
      omega
theorem pb_bounds {post : Int32 → St2 → Prop} {c q : Nat} {y f s : Int32} {a1 a2 a3 a4 a5 : Nat → Int32} (h : pb_S c q f s a1 a2 a3 a4 a5)
    (h1 : (y < 0 ∨ (1 : Int32) <<< (f &&& 31) ≤ y) → post (-1) (f, s, a1, a2, a3, a4, a5))
    (h2 : ¬ (y < 0 ∨ (1 : Int32) <<< (f &&& 31) ≤ y) → ∀ b3 b4 b5 : Nat → Int32, (c = 1 → b3 0 = 0 ∧ b4 0 = -2 ∧ b5 0 = -2) → post (if y = 0 then 1 else 0) (f, f, a1, a2, b3, b4, b5)) : wpX_bounds post (f, s, a1, a2, a3, a4, a5) y := by
  have hc := h.2.1
  have hf := h.1
  unfold wpX_bounds
  refine pb_isC (fun z => br_t rfl (h1 z)) (fun z => br_f (by decide) (pb_isE h (br_f (by decide) (pb_bord h (br_t rfl (pb_solve h (fun b3 b4 b5 hb => ?_)))))))
  have hp' := h2 z b3 b4 b5 hb
  subst hf
  have hy := pb_ch hc z
  by_cases e : c = 0
  · subst e
    have y0 : y = 0 := hy.elim id (fun w => absurd w.1 (by omega))
    rw [if_pos y0] at hp'
    exact nm_r (e' := -1) (by decide) (Exists.intro 1 (br_t (by decide) hp'))
  · have ec : c = 1 := by omega
    subst ec
    refine nm_r (e' := 0) (by decide) ?_
    rcases hy with y0 | ⟨_, y1⟩
    · rw [if_pos y0] at hp'
      subst y0
      exact Exists.intro 2 (br_f (by decide) (br_f (by decide) (nm_r (e' := -1) (by decide) (br_t (by decide) hp'))))
    · rw [if_neg (by rw [y1]; decide)] at hp'
      subst y1
      have e5 : b5 (0 : Int32).toNatClampNeg = -2 := by rw [sb_cl0]; exact (hb rfl).2.2
      exact Exists.intro 1 (br_f (by decide) (br_t (by decide) ⟨pk_in 0 26 (by omega), br_f (by rw [e5]; decide) hp'⟩))
end
section
theorem pb_380 {post : Int32 → St0 → Prop} {mc ms kc ks c q : Nat} {x0 x1 z f s : Int32} {a1 a2 a3 a4 a5 : Nat → Int32} (hp : post 1 ()) (h : pb_S c q f s a1 a2 a3 a4 a5) (h0 : c = 1 → x0 = nI q)
    (hz : (z = 0 ∧ ¬ pb_good x1) ∨ (z = 1 ∧ pb_good x1)) : wL_lawOf_380 post mc ms x0 x1 (nI c) (nI c) (pb_n x1) z kc ks f s a1 a2 a3 a4 a5 := by
  have hc := h.2.1
  have hz1 : pb_good x1 → ¬ z = 0 := fun g => hz.elim (fun w => absurd g w.2) (fun w => by rw [w.1]; decide)
  have hz0 : ¬ pb_good x1 → z = 0 := fun g => hz.elim (fun w => w.1) (fun w => absurd w.2 g)
  unfold wL_lawOf_380
  refine pb_add h (fun g => ?_) (fun g e => ?_) (fun g e n => ?_) (fun g e n => ?_)
  · exact br_t (hz0 g) (br_t rfl hp)
  · exact br_f (hz1 g) (pk_eq c 0 (fun w => absurd e.1 (by omega)) (fun _ => br_t (e.2.trans (h0 e.1).symm) (br_t rfl hp)))
  · refine br_f (hz1 g) (pk_eq c 0 (fun _ => br_f n (br_t rfl hp)) (fun w => br_f (fun y => e ⟨by omega, y.trans (h0 (by omega))⟩) (br_f n (br_t rfl hp))))
  · refine br_f (hz1 g) (pk_eq c 0 (fun _ => br_t n (br_t rfl hp)) (fun w => br_f (fun y => e ⟨by omega, y.trans (h0 (by omega))⟩) (br_t n (br_t rfl hp))))
theorem pb_318 {post : Int32 → St0 → Prop} {mc ms kc ks c q : Nat} {x0 x1 z z' f s : Int32} {a1 a2 a3 a4 a5 : Nat → Int32} (hp : post 1 ()) (h : pb_S c q f s a1 a2 a3 a4 a5) (h0 : c = 1 → x0 = nI q) (hz : z' = z) : wL_lawOf_318 post mc ms x0 x1 (nI c) (nI c) z z' kc ks f s a1 a2 a3 a4 a5 := by
  have key : ¬ pb_good x1 → wL_lawOf_379 post mc ms x0 x1 (nI c) (nI c) (pb_n x1) kc ks f s a1 a2 a3 a4 a5 := fun g => pb_380 hp h h0 (Or.inl ⟨rfl, g⟩)
  exact br_t hz (nm_r (e' := pb_n x1) rfl (br_c (fun y => key (fun g => g.1 y)) (fun y => br_c (fun w => key (fun g => g.2.1 w)) (fun w => br_c (fun v => key (fun g => g.2.2 v)) (fun v => pb_380 hp h h0 (Or.inr ⟨rfl, y, w, v⟩))))))
theorem pb_290 {post : Int32 → St0 → Prop} {mc ms kc ks c q : Nat} {x0 x1 x4 z f s : Int32} {a1 a2 a3 a4 a5 : Nat → Int32} (hp : post 1 ()) (h : pb_S c q f s a1 a2 a3 a4 a5) (h0 : c = 1 → x0 = nI q)
    (hz : (z = 0 ∧ (x4 < 0 ∨ (1 : Int32) <<< (nI c &&& 31) ≤ x4)) ∨ (z = 1 ∧ ¬ (x4 < 0 ∨ (1 : Int32) <<< (nI c &&& 31) ≤ x4))) : wL_lawOf_290 post mc ms x0 x1 x4 (nI c) (nI c) z kc ks f s a1 a2 a3 a4 a5 := by
  have hf := h.1
  unfold wL_lawOf_290
  refine pb_bounds h (fun g => ?_) (fun g b3 b4 b5 hb => ?_)
  · rw [hf] at g
    exact br_t (hz.elim (fun w => w.1) (fun w => absurd g w.2)) (pb_318 hp h h0 rfl)
  · rw [hf] at g
    refine br_f (hz.elim (fun w => absurd w.2 g) (fun w => by rw [w.1]; decide)) (br_c (fun w => pb_318 hp (pb_SD h hb) h0 (if_pos w)) (fun w => pb_318 hp (pb_SD h hb) h0 (if_neg w)))
theorem pb_266 {post : Int32 → St0 → Prop} {mc ms kc ks c q : Nat} {x0 x1 x4 z z' f s : Int32} {a1 a2 a3 a4 a5 : Nat → Int32} (hp : post 1 ()) (h : pb_S c q f s a1 a2 a3 a4 a5) (h0 : c = 1 → x0 = nI q) (hz : z' = z) : wL_lawOf_266 post mc ms x0 x1 x4 (nI c) (nI c) z z' kc ks f s a1 a2 a3 a4 a5 := by
  have key : (x4 < 0 ∨ (1 : Int32) <<< (nI c &&& 31) ≤ x4) → wL_lawOf_289 post mc ms x0 x1 x4 (nI c) (nI c) kc ks f s a1 a2 a3 a4 a5 := fun g => pb_290 hp h h0 (Or.inl ⟨rfl, g⟩)
  exact br_t hz (br_c (fun y => key (Or.inl y)) (fun y => br_c (fun w => key (Or.inr w)) (fun w => pb_290 hp h h0 (Or.inr ⟨rfl, fun v => v.elim y w⟩))))
theorem pb_243 {post : Int32 → St0 → Prop} {mc ms kc ks c q : Nat} {x0 x1 x2 x4 x10 z z' f s : Int32} {a1 a2 a3 a4 a5 : Nat → Int32} (hp : post 1 ()) (h : pb_S c q f s a1 a2 a3 a4 a5) (h0 : c = 1 → x0 = nI q)
    (ht : (x10 = 0 ∧ (x2 < 0 ∨ nI c < x2)) ∨ (x10 = 1 ∧ ¬ (x2 < 0 ∨ nI c < x2))) (hz : z' = z) : wL_lawOf_243 post mc ms x0 x1 x2 x4 (nI c) (nI c) x10 z z' kc ks f s a1 a2 a3 a4 a5 := by
  have hf := h.1
  refine br_t hz (pb_euler h (fun g => ?_) (fun g => ?_))
  · rw [hf] at g
    exact br_t (ht.elim (fun w => w.1) (fun w => absurd g w.2)) (pb_266 hp h h0 rfl)
  · rw [hf] at g
    exact br_f (ht.elim (fun w => absurd w.2 g) (fun w => by rw [w.1]; decide)) (pb_266 hp h h0 rfl)
theorem pb_201 {post : Int32 → St0 → Prop} {mc ms kc ks c q : Nat} {x0 x1 x2 x3 x4 x10 z f s : Int32} {a1 a2 a3 a4 a5 : Nat → Int32} (hp : post 1 ()) (h : pb_S c q f s a1 a2 a3 a4 a5) (h0 : c = 1 → x0 = nI q)
    (ht : (x10 = 0 ∧ (x2 < 0 ∨ nI c < x2)) ∨ (x10 = 1 ∧ ¬ (x2 < 0 ∨ nI c < x2))) (hk : (z = 0 ∧ (x3 < 0 ∨ 3 < x3)) ∨ (z = 1 ∧ ¬ (x3 < 0 ∨ 3 < x3))) : wL_lawOf_201 post mc ms x0 x1 x2 x3 x4 (nI c) (nI c) x10 z kc ks f s a1 a2 a3 a4 a5 := by
  have hf := h.1
  have t0 : (x2 < 0 ∨ f < x2) → x10 = 0 := fun g => ht.elim (fun w => w.1) (fun w => absurd (hf ▸ g) w.2)
  have t1 : ¬ (x2 < 0 ∨ f < x2) → ¬ x10 = 0 := fun g => ht.elim (fun w => absurd w.2 (hf ▸ g)) (fun w => by rw [w.1]; decide)
  unfold wL_lawOf_201
  refine pb_holes h (fun g => ?_) (fun g e => ?_) (fun g e b3 b4 b5 hb => ?_)
  · exact br_t (t0 g) (pb_243 hp h h0 ht rfl)
  · exact br_f (t1 g) (br_t (hk.elim (fun w => w.1) (fun w => absurd e w.2)) (pb_243 hp h h0 ht rfl))
  · have hk1 : ¬ z = 0 := hk.elim (fun w => absurd w.2 e) (fun w => by rw [w.1]; decide)
    exact br_f (t1 g) (br_f hk1 (br_c (fun w => br_c (fun v => pb_243 hp (pb_SD h hb) h0 ht (if_pos ⟨w, v⟩)) (fun v => pb_243 hp (pb_SD h hb) h0 ht (if_neg (fun y => v y.2)))) (fun w => pb_243 hp (pb_SD h hb) h0 ht (if_neg (fun y => w y.1)))))
theorem pb_185 {post : Int32 → St0 → Prop} {mc ms kc ks c q : Nat} {x0 x1 x2 x3 x4 x10 f s : Int32} {a1 a2 a3 a4 a5 : Nat → Int32} (hp : post 1 ()) (h : pb_S c q f s a1 a2 a3 a4 a5) (h0 : c = 1 → x0 = nI q)
    (ht : (x10 = 0 ∧ (x2 < 0 ∨ nI c < x2)) ∨ (x10 = 1 ∧ ¬ (x2 < 0 ∨ nI c < x2))) : wL_lawOf_185 post mc ms x0 x1 x2 x3 x4 (nI c) (nI c) x10 kc ks f s a1 a2 a3 a4 a5 := by
  have key : (x3 < 0 ∨ 3 < x3) → wL_lawOf_200 post mc ms x0 x1 x2 x3 x4 (nI c) (nI c) x10 kc ks f s a1 a2 a3 a4 a5 := fun g => pb_201 hp h h0 ht (Or.inl ⟨rfl, g⟩)
  exact br_c (fun y => key (Or.inl y)) (fun y => br_c (fun w => key (Or.inr w)) (fun w => pb_201 hp h h0 ht (Or.inr ⟨rfl, fun v => v.elim y w⟩)))
theorem pb_165 {post : Int32 → St0 → Prop} {mc ms kc ks c q : Nat} {x0 x1 x2 x3 x4 z z' f s : Int32} {a1 a2 a3 a4 a5 : Nat → Int32} (hp : post 1 ()) (h : pb_S c q f s a1 a2 a3 a4 a5) (h0 : c = 1 → x0 = nI q) (hz : z' = z) : wL_lawOf_165 post mc ms x0 x1 x2 x3 x4 (nI c) (nI c) z z' kc ks f s a1 a2 a3 a4 a5 := by
  have key : (x2 < 0 ∨ nI c < x2) → wL_lawOf_184 post mc ms x0 x1 x2 x3 x4 (nI c) (nI c) kc ks f s a1 a2 a3 a4 a5 := fun g => pb_185 hp h h0 (Or.inl ⟨rfl, g⟩)
  exact br_t hz (br_c (fun y => key (Or.inl y)) (fun y => br_c (fun w => key (Or.inr w)) (fun w => pb_185 hp h h0 (Or.inr ⟨rfl, fun v => v.elim y w⟩))))
theorem pb_145 {post : Int32 → St0 → Prop} {mc ms kc ks c q : Nat} {x0 x1 x2 x3 x4 z z' f s : Int32} {a1 a2 a3 a4 a5 : Nat → Int32} (hp : post 1 ()) (h : pb_S c q f s a1 a2 a3 a4 a5) (h0 : c = 1 → x0 = nI q) (hz : z' = z) : wL_lawOf_145 post mc ms x0 x1 x2 x3 x4 (nI c) (nI c) z z' kc ks f s a1 a2 a3 a4 a5 := by
  refine br_t hz (pb_partner h (fun e => ?_) (fun e b3 b4 b5 hb => ?_))
  · exact pk_eq c 0 (fun _ => pb_165 hp h h0 rfl) (fun w => absurd e w) rfl rfl (by omega) (by omega)
  · exact pk_eq c 0 (fun w => absurd e (by omega)) (fun _ => pb_165 hp (pb_SD h hb) h0 rfl) rfl rfl (by omega) (by omega)
theorem pb_127 {post : Int32 → St0 → Prop} {mc ms kc ks c q : Nat} {x0 x1 x2 x3 x4 f s : Int32} {a1 a2 a3 a4 a5 : Nat → Int32} (hp : post 1 ()) (h : pb_S c q f s a1 a2 a3 a4 a5) (h0 : c = 1 → x0 = nI q) : wL_lawOf_127 post mc ms x0 x1 x2 x3 x4 (nI c) (nI c) kc ks f s a1 a2 a3 a4 a5 := by
  unfold wL_lawOf_127
  refine pb_piece h (fun e => ?_) (fun e => ?_)
  · exact pk_eq c 0 (fun _ => pb_145 hp h h0 rfl) (fun w => absurd e w) rfl rfl (by omega) (by omega)
  · exact pk_eq c 0 (fun w => absurd e (by omega)) (fun _ => pb_145 hp h h0 (h0 e).symm) rfl rfl (by omega) (by omega)
theorem pb_112 {post : Int32 → St0 → Prop} {mc ms kc ks c q : Nat} {x0 x1 x2 x3 x4 z z' f s : Int32} {a1 a2 a3 a4 a5 : Nat → Int32} (hp : post 1 ()) (h : pb_S c q f s a1 a2 a3 a4 a5) (h0 : c = 1 → x0 = nI q) (hz : z' = z) : wL_lawOf_112 post mc ms x0 x1 x2 x3 x4 (nI c) z z' kc ks f s a1 a2 a3 a4 a5 := by
  have hc : c = 0 ∨ c = 1 := by have := h.2.1; omega
  rcases hc with rfl | rfl
  · exact br_t hz (br_t rfl (pb_127 hp h h0))
  · exact br_t hz (br_f (by decide) (pb_127 hp h h0))
/-- the first add: x7 the flag 'good', z the flag 'made' -/
theorem pb_84 {post : Int32 → St0 → Prop} {mc ms kc ks q : Nat} {x0 x1 x2 x3 x4 x7 z f s : Int32} {a1 a2 a3 a4 a5 : Nat → Int32} (hp : post 1 ()) (h : pb_S 0 q f s a1 a2 a3 a4 a5)
    (hg : (x7 = 0 ∧ ¬ pb_good x0) ∨ (x7 = 1 ∧ pb_good x0)) (hm : (z = 0 ∧ ¬ (pb_good x0 ∧ pb_n x0 = 1)) ∨ (z = 1 ∧ (pb_good x0 ∧ pb_n x0 = 1))) : wL_lawOf_84 post mc ms x0 x1 x2 x3 x4 x7 z kc ks f s a1 a2 a3 a4 a5 := by
  have g1 : pb_good x0 → ¬ x7 = 0 := fun g => hg.elim (fun w => absurd g w.2) (fun w => by rw [w.1]; decide)
  have g0 : ¬ pb_good x0 → x7 = 0 := fun g => hg.elim (fun w => w.1) (fun w => absurd w.2 g)
  have m0 : ¬ (pb_good x0 ∧ pb_n x0 = 1) → z = 0 := fun g => hm.elim (fun w => w.1) (fun w => absurd w.2 g)
  have m1 : (pb_good x0 ∧ pb_n x0 = 1) → z = 1 := fun g => hm.elim (fun w => absurd g w.2) (fun w => w.1)
  unfold wL_lawOf_84
  refine pb_add h (fun g => ?_) (fun g e => absurd e.1 (by omega)) (fun g e n => ?_) (fun g e n => ?_)
  · have z0 := m0 (fun w => g w.1)
    subst z0
    exact br_t (g0 g) (pb_112 (c := 0) hp h (fun w => absurd w (by omega)) rfl)
  · have z0 := m0 (fun w => n w.2)
    subst z0
    exact br_f (g1 g) (br_t rfl (pb_112 (c := 0) hp h (fun w => absurd w (by omega)) rfl))
  · have z1 := m1 ⟨g, n⟩
    subst z1
    obtain ⟨k, hk1, hk, rfl⟩ := pb_k g.1 g.2.1
    exact br_f (g1 g) (br_f (by decide) (pb_112 (c := 1) hp (pb_S1 h hk n) (fun _ => rfl) rfl))
theorem pb_66 {post : Int32 → St0 → Prop} {mc ms kc ks q : Nat} {x0 x1 x2 x3 x4 z f s : Int32} {a1 a2 a3 a4 a5 : Nat → Int32} (hp : post 1 ()) (h : pb_S 0 q f s a1 a2 a3 a4 a5)
    (hg : (z = 0 ∧ ¬ pb_good x0) ∨ (z = 1 ∧ pb_good x0)) : wL_lawOf_66 post mc ms x0 x1 x2 x3 x4 (pb_n x0) z kc ks f s a1 a2 a3 a4 a5 := by
  have key : ¬ (pb_good x0 ∧ pb_n x0 = 1) → wL_lawOf_83 post mc ms x0 x1 x2 x3 x4 z kc ks f s a1 a2 a3 a4 a5 := fun g => pb_84 hp h hg (Or.inl ⟨rfl, g⟩)
  refine br_c (fun w => key (fun g => ?_)) (fun w => br_c (fun v => pb_84 hp h hg (Or.inr ⟨rfl, ?_, v⟩)) (fun v => key (fun g => v g.2)))
  · exact hg.elim (fun y => y.2 g.1) (fun y => absurd (y.1.symm.trans w) (by decide))
  · exact hg.elim (fun y => absurd y.1 w) (fun y => y.2)
theorem pb_lawOf {post : Int32 → St0 → Prop} {p0 p1 p2 p3 p4 : Int32} (hp : post 1 ()) : wpL_lawOf post 6 175 () p0 p1 p2 p3 p4 := by
  unfold wpL_lawOf
  refine ⟨by omega, by omega, 5, 168, by omega, by omega, pb_init (fun a2 h2 => ?_)⟩
  have h := pb_S0 (a1 := fun _ => 0) (a3 := fun _ => 0) (a4 := fun _ => 0) (a5 := fun _ => 0) h2
  have key : ¬ pb_good p0 → wL_lawOf_65 post 6 175 p0 p1 p2 p3 p4 (pb_n p0) (1 + 5) (7 + 168) 0 0 (fun _ => 0) a2 (fun _ => 0) (fun _ => 0) (fun _ => 0) := fun g => pb_66 hp h (Or.inl ⟨rfl, g⟩)
  exact nm_r (e' := pb_n p0) rfl (br_c (fun y => key (fun g => g.1 y)) (fun y => br_c (fun w => key (fun g => g.2.1 w)) (fun w => br_c (fun v => key (fun g => g.2.2 v)) (fun v => pb_66 hp h (Or.inr ⟨rfl, y, w, v⟩)))))
theorem pb_cell {post : Int32 → Prop} {L : Nat} {xs : Nat → Int32} (hL : L ≤ 5) (i : Nat) (hi : i < 5) (hp : ∀ r, post r) : wpL_cellAt post L xs () (nI i) :=
  pk_le L i (fun _ => hp _) (fun z => ⟨pk_in i L z, hp _⟩)
theorem i_vc (xs : Nat → Int32) (L : Nat) (hL : L ≤ 5) : wpL_law (fun r => r = 1) L xs := by
  unfold wpL_law
  refine pb_cell hL 0 (by omega) (fun r1 => ?_)
  refine pb_cell hL 1 (by omega) (fun r2 => ?_)
  refine pb_cell hL 2 (by omega) (fun r3 => ?_)
  refine pb_cell hL 3 (by omega) (fun r4 => ?_)
  refine pb_cell hL 4 (by omega) (fun r5 => ?_)
  exact ⟨6, 175, by omega, by omega, pb_lawOf rfl⟩
end
