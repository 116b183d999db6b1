section
/-- what the table of implications holds when only job 0 is there: v0 and v1 for its two ways, nothing for the rest -/
def td_V (v0 v1 : Int32) (c : Nat) : Int32 := if c = 0 then v0 else if c = 1 then v1 else 0
/-- the first k places of the table are filled so -/
def td_A (v0 v1 : Int32) (k : Nat) (a : Nat → Int32) : Prop := ∀ i, i < k → a i = td_V v0 v1 i
theorem td_fill {v0 v1 x : Int32} {k m : Nat} {a : Nat → Int32} (hm : m = k) (h : td_A v0 v1 k a) (hx : x = td_V v0 v1 k) : td_A v0 v1 (k + 1) (upd a m x) := by
  intro j hj
  rw [hm]
  by_cases e : j = k
  · rw [e, pk_us, hx]
  · rw [pk_un e]
    exact h j (by omega)
theorem td_keep {v0 v1 x : Int32} {k m N : Nat} {a : Nat → Int32} (hm : m = k) (h : td_A v0 v1 N a) (hx : x = td_V v0 v1 k) : td_A v0 v1 N (upd a m x) := by
  intro j hj
  rw [hm]
  by_cases e : j = k
  · rw [e, pk_us, hx]
  · rw [pk_un e]
    exact h j hj
theorem td_V2 {v0 v1 : Int32} {c : Nat} (h : 2 ≤ c) : td_V v0 v1 c = 0 := by
  unfold td_V
  rw [if_neg (by omega), if_neg (by omega)]

-- has
theorem td_hT {post : Int32 → Prop} {pn pw kn fi : Int32} {a1 a2 : Nat → Int32} (h : post 1) : wpX_has post (1, pn, pw, kn, fi, a1, a2) 0 :=
  br_f (by decide) (br_f (by decide) (br_f (by decide) h))
theorem td_sh : ∀ k, k < 8 → 0 < k → ((1 : Int32) >>> (nI k &&& 31)) &&& 1 = 0 := by decide
theorem td_sh0 : ∀ k, k < 8 → ((0 : Int32) >>> (nI k &&& 31)) &&& 1 = 0 := by decide
theorem td_lt8 {j : Int32} (h0 : ¬ j < 0) (h8 : ¬ 8 ≤ j) : ∃ k : Nat, k < 8 ∧ j = nI k := by
  obtain ⟨k, hk, rfl⟩ := nI_of h0
  refine ⟨k, ?_, rfl⟩
  rcases Nat.lt_or_ge k 8 with z | z
  · exact z
  · exact absurd (nI_le z hk) h8
theorem td_hF {post : Int32 → Prop} {pn pw kn fi j : Int32} {a1 a2 : Nat → Int32} (hj : ¬ j = 0) (h : post 0) : wpX_has post (1, pn, pw, kn, fi, a1, a2) j := by
  refine br_c (fun _ => h) (fun h0 => br_c (fun _ => h) (fun h8 => br_t ?_ h))
  obtain ⟨k, hk, rfl⟩ := td_lt8 h0 h8
  refine td_sh k hk ?_
  rcases Nat.eq_zero_or_pos k with z | z
  · exact absurd (by rw [z]; rfl) hj
  · exact z
theorem td_h0 {post : Int32 → Prop} {pn pw kn fi j : Int32} {a1 a2 : Nat → Int32} (h : post 0) : wpX_has post (0, pn, pw, kn, fi, a1, a2) j := by
  refine br_c (fun _ => h) (fun h0 => br_c (fun _ => h) (fun h8 => br_t ?_ h))
  obtain ⟨k, hk, rfl⟩ := td_lt8 h0 h8
  exact td_sh0 k hk

-- possible
/-- what a set s implies, by the choices below i -/
def td_f (s v0 v1 : Int32) : Nat → Int32
  | 0 => 0
  | i + 1 => if (s >>> (nI i &&& 31)) &&& 1 = 0 then td_f s v0 v1 i else td_f s v0 v1 i ||| td_V v0 v1 i
/-- the answer of possible -/
def td_r (s v0 v1 : Int32) : Int32 := if ((td_f s v0 v1 16 &&& (td_f s v0 v1 16 >>> ((1 : Int32) &&& 31))) &&& 21845) = 0 then 1 else 0
theorem td_pos {post : Int32 → Prop} {pr pn pw kn fi v0 v1 s : Int32} {a1 a2 : Nat → Int32} (hA : td_A v0 v1 16 a2) (r : Int32) (hr : td_r s v0 v1 = r) (h : post r) : wpX_possible post (pr, pn, pw, kn, fi, a1, a2) s := by
  refine pk_loop (fun n i x => wX_possible_4 post s pr pn pw kn fi a1 a2 n x (nI i)) (fun i x => x = td_f s v0 v1 i) 16 0 0 (by omega) rfl (fun n x hx => ?_) (fun n i x hi hx hw => ?_)
  · refine pk_le 16 16 (fun _ => ?_) (fun z => absurd z (by omega))
    subst hx
    subst hr
    refine br_c (fun g => ?_) (fun g => ?_)
    · have e : td_r s v0 v1 = 1 := if_pos g
      rw [e] at h
      exact ⟨rfl, h⟩
    · have e : td_r s v0 v1 = 0 := if_neg g
      rw [e] at h
      exact ⟨rfl, h⟩
  · refine pk_le 16 i (fun z => absurd z (by omega)) (fun _ => ?_)
    refine br_c (fun g => nm_r (nI_1 i) (hw x ?_)) (fun g => ⟨pk_in i 16 hi, nm_e (nm_r (nI_1 i) (hw _ ?_))⟩)
    · rw [hx]
      exact (if_pos g).symm
    · rw [hx, nI_clamp (by omega), hA i hi]
      exact (if_neg g).symm

-- planFirst: whatever it plans
theorem td_plan {post : St2 → Prop} {pn pw kn fi v0 v1 : Int32} {a1 a2 : Nat → Int32} (hA : td_A v0 v1 16 a2) (H : ∀ f, post (1, pn, pw, kn, f, a1, a2)) : wpX_planFirst post (1, pn, pw, kn, fi, a1, a2) := by
  refine pk_loop (fun n i x => wX_planFirst_4 post 1 pn pw kn fi a1 a2 n x (nI i)) (fun _ _ => True) 8 0 0 (by omega) trivial (fun n x _ => ?_) (fun n i x hi _ hw => ?_)
  · exact pk_le 8 8 (fun _ => H x) (fun z => absurd z (by omega))
  · refine pk_le 8 i (fun z => absurd z (by omega)) (fun _ => ?_)
    by_cases e : i = 0
    · subst e
      refine td_hT (br_f (by decide) (nm_e (td_pos hA _ rfl (br_c (fun _ => ?_) (fun _ => ?_)))))
      · exact nm_e (nm_r (nI_1 0) (hw _ trivial))
      · exact nm_r (nI_1 0) (hw _ trivial)
    · exact td_hF (nI_ne0 (by omega) (by omega)) (br_t rfl (nm_r (nI_1 i) (hw _ trivial)))

-- direct: no other job to collide with; a pin against the choice
def td_d (pn pw x : Int32) : Int32 :=
  if (pn >>> ((x >>> ((1 : Int32) &&& 31)) &&& 31)) &&& 1 = 0 then 0
  else if (pw >>> ((x >>> ((1 : Int32) &&& 31)) &&& 31)) &&& 1 = x &&& 1 then 0 else 0 ||| ((1 : Int32) <<< ((x ^^^ 1) &&& 31))
theorem td_half : ∀ i, i < 16 → (i < 2 → nI i >>> ((1 : Int32) &&& 31) = 0) ∧ (2 ≤ i → ¬ nI i >>> ((1 : Int32) &&& 31) = 0) := by decide
theorem td_dir {post : Int32 → Prop} {pn pw kn fi x : Int32} {a1 a2 : Nat → Int32} (hx : x >>> ((1 : Int32) &&& 31) = 0) (h : post (td_d pn pw x)) : wpX_direct post (1, pn, pw, kn, fi, a1, a2) x := by
  refine pk_loop (σ := Unit) (fun n i _ => wX_direct_4 post x 1 pn pw kn fi a1 a2 n 0 (nI i)) (fun _ _ => True) 16 0 () (by omega) trivial (fun n _ _ => ?_) (fun n i _ hi _ hw => ?_)
  · refine pk_le 16 16 (fun _ => nm_e ?_) (fun z => absurd z (by omega))
    unfold td_d at h
    refine br_c (fun g => ?_) (fun g => br_c (fun g2 => ?_) (fun g2 => ?_))
    · rw [if_pos g] at h
      exact br_t rfl h
    · rw [if_neg g, if_pos g2] at h
      exact br_t rfl h
    · rw [if_neg g, if_neg g2] at h
      exact br_f (by decide) h
  · refine pk_le 16 i (fun z => absurd z (by omega)) (fun _ => ?_)
    by_cases e : i < 2
    · have e0 := (td_half i hi).1 e
      rw [e0]
      exact td_hT (br_f (by decide) (br_t hx.symm (nm_r (nI_1 i) (hw () trivial))))
    · exact td_hF ((td_half i hi).2 (by omega)) (br_t rfl (nm_r (nI_1 i) (hw () trivial)))
end
section
/-- the table (v0, v1) is what learn works out of the pins (pn, pw): the direct implications, and closed under chains -/
def td_T (pn pw v0 v1 : Int32) : Prop :=
  v0 = (((((1 : Int32) <<< (nI 0 &&& 31)) ||| td_d pn pw (nI 0)).toUInt32 % 65536).toInt32) ∧
  v1 = (((((1 : Int32) <<< (nI 1 &&& 31)) ||| td_d pn pw (nI 1)).toUInt32 % 65536).toInt32) ∧
  ∀ m, m < 16 → ∀ i, i < 16 → (((td_V v0 v1 i) >>> (nI m &&& 31)) &&& 1 = 0 ∨ ((td_V v0 v1 i ||| td_V v0 v1 m).toUInt32 % 65536).toInt32 = td_V v0 v1 i)
theorem td_T00 : td_T 0 0 1 2 := by unfold td_T; decide +kernel
theorem td_T10 : td_T 1 0 1 3 := by unfold td_T; decide +kernel
theorem td_T11 : td_T 1 1 3 2 := by unfold td_T; decide +kernel

theorem td_67 {post : St2 → Prop} {J : Int32 → (Nat → Int32) → (Nat → Int32) → Prop} {pn pw kn fi v0 v1 : Int32} {a1 a2 : Nat → Int32} (hT : td_T pn pw v0 v1) {m : Nat} (hm : m < 16) (hA : td_A v0 v1 16 a2)
    (H : ∀ a, td_A v0 v1 16 a → J (nI (m + 1)) a1 a) : ∃ n, wX_learn_67 post J (nI m) 1 pn pw kn fi n 0 a1 a2 := by
  refine pk_loop (fun n i a => wX_learn_67 post J (nI m) 1 pn pw kn fi n (nI i) a1 a) (fun _ a => td_A v0 v1 16 a) 16 0 a2 (by omega) hA (fun n a h => ?_) (fun n i a hi h hw => ?_)
  · exact pk_le 16 16 (fun _ => nm_r (nI_1 m) (H a h)) (fun z => absurd z (by omega))
  · refine pk_le 16 i (fun z => absurd z (by omega)) (fun _ => ⟨pk_in i 16 hi, ?_⟩)
    rw [nI_clamp (show i < 2 ^ 31 by omega), nI_clamp (show m < 2 ^ 31 by omega), h i hi, h m hm]
    refine br_c (fun _ => nm_r (nI_1 i) (hw a h)) (fun g => ⟨pk_in i 16 hi, pk_in m 16 hm, pk_in i 16 hi, nm_e (nm_r (nI_1 i) (hw _ (td_keep rfl h ?_)))⟩)
    exact (hT.2.2 m hm i hi).resolve_left g

theorem td_59 {post : St2 → Prop} {pn pw kn fi v0 v1 : Int32} {a1 a2 : Nat → Int32} (hT : td_T pn pw v0 v1) (hA : td_A v0 v1 16 a2)
    (H : ∀ f a, td_A v0 v1 16 a → post (1, pn, pw, kn, f, a1, a)) : ∃ n, wX_learn_59 post 1 pn pw kn fi n 0 a1 a2 := by
  refine pk_loop (fun n i a => wX_learn_59 post 1 pn pw kn fi n (nI i) a1 a) (fun _ a => td_A v0 v1 16 a) 16 0 a2 (by omega) hA (fun n a h => ?_) (fun n i a hi h hw => ?_)
  · exact pk_le 16 16 (fun _ => td_plan h (fun f => H f a h)) (fun z => absurd z (by omega))
  · exact pk_le 16 i (fun z => absurd z (by omega)) (fun _ => td_67 hT hi h (fun a' h' => hw a' h'))

theorem td_15 {post : St2 → Prop} {pn pw kn fi v0 v1 : Int32} {a1 a2 : Nat → Int32} (hT : td_T pn pw v0 v1)
    (H : ∀ f a, td_A v0 v1 16 a → post (1, pn, pw, kn, f, a1, a)) : ∃ n, wX_learn_15 post 1 pn pw kn fi n 0 a1 a2 := by
  refine pk_loop (fun n i a => wX_learn_15 post 1 pn pw kn fi n (nI i) a1 a) (fun i a => td_A v0 v1 i a) 16 0 a2 (by omega) (fun j hj => absurd hj (by omega)) (fun n a h => ?_) (fun n i a hi h hw => ?_)
  · exact pk_le 16 16 (fun _ => td_59 hT h H) (fun z => absurd z (by omega))
  · refine pk_le 16 i (fun z => absurd z (by omega)) (fun _ => ?_)
    by_cases e : i < 2
    · have e0 := (td_half i hi).1 e
      rw [e0]
      refine td_hT (br_f (by decide) (td_dir e0 ⟨pk_in i 16 hi, nm_e (nm_r (nI_1 i) (hw _ (td_fill (nI_clamp (by omega)) h ?_)))⟩))
      rcases (show i = 0 ∨ i = 1 by omega) with z | z
      · subst z
        exact hT.1.symm
      · subst z
        exact hT.2.1.symm
    · refine td_hF ((td_half i hi).2 (by omega)) (br_t rfl ⟨pk_in i 16 hi, nm_e (nm_r (nI_1 i) (hw _ (td_fill (nI_clamp (by omega)) h ?_)))⟩)
      rw [td_V2 (by omega)]
      decide

theorem td_learn {post : St2 → Prop} {pn pw fi v0 v1 : Int32} {a1 a2 : Nat → Int32} (hT : td_T pn pw v0 v1)
    (H : ∀ f a, td_A v0 v1 16 a → post (1, pn, pw, 1, f, a1, a)) : wpX_learn post (1, pn, pw, 0, fi, a1, a2) := br_t rfl (td_15 hT H)

theorem td_solv {post : Int32 → St2 → Prop} {pn pw fi v0 v1 : Int32} {a1 a2 : Nat → Int32} (hT : td_T pn pw v0 v1)
    (hs : ¬ td_r ((1 : Int32) <<< ((2 * 0) &&& 31)) v0 v1 = 0 ∨ ¬ td_r ((2 : Int32) <<< ((2 * 0) &&& 31)) v0 v1 = 0)
    (H : ∀ f a, td_A v0 v1 16 a → post 1 (1, pn, pw, 1, f, a1, a)) : wpX_solvable post (1, pn, pw, 0, fi, a1, a2) := by
  refine td_learn hT (fun f a hA => ?_)
  refine pk_loop (σ := Unit) (fun n i _ => wX_solvable_6 post 1 pn pw 1 f a1 a n (nI i)) (fun _ _ => True) 8 0 () (by omega) trivial (fun n _ _ => ?_) (fun n i _ hi _ hw => ?_)
  · exact pk_le 8 8 (fun _ => H f a hA) (fun z => absurd z (by omega))
  · refine pk_le 8 i (fun z => absurd z (by omega)) (fun _ => ?_)
    by_cases e : i = 0
    · subst e
      refine td_hT (br_f (by decide) (td_pos hA _ rfl (br_c (fun g => ?_) (fun _ => ?_))))
      · exact td_pos hA _ rfl (br_f (hs.resolve_left (fun z => z g)) (nm_r (nI_1 0) (hw () trivial)))
      · exact nm_r (nI_1 0) (hw () trivial)
    · exact td_hF (nI_ne0 (by omega) (by omega)) (br_t rfl (nm_r (nI_1 i) (hw () trivial)))
end
section
-- a way: the class's test and the law's are one
/-- a way, as a natural number -/
def td_wn (k : Nat) : Prop := k % 4 < 3 ∧ 1 ≤ k / 128 ∧ k / 4 % 32 + k / 128 ≤ 20
def td_w (a : Int32) : Prop := ∃ k : Nat, k < 2 ^ 31 ∧ a = nI k ∧ td_wn k
theorem td_w_n {k : Nat} (hk : k < 2 ^ 31) (h : ¬ td_wn k) : ¬ td_w (nI k) := by
  rintro ⟨j, hj, e, hw⟩
  rw [(nI_eq hk hj).mp e] at h
  exact h hw
theorem td_w_neg {a : Int32} (h : a < 0) : ¬ td_w a := by
  rintro ⟨j, hj, e, _⟩
  rw [e] at h
  exact nI_pos hj h
theorem td_m {k : Nat} (hk : k < 2 ^ 31) : nI k &&& 3 = nI (k % 4) := pk_andN (by omega) 2 (by decide)
theorem td_l {k : Nat} (hk : k < 2 ^ 31) : nI k >>> ((7 : Int32) &&& 31) = nI (k / 128) := pk_shrN hk _ 7 (by decide)
theorem td_s {k : Nat} (hk : k < 2 ^ 31) : (nI k >>> ((2 : Int32) &&& 31)) &&& 31 = nI (k / 4 % 32) := by
  rw [pk_shrN hk _ 2 (by decide)]
  exact pk_andN (by omega) 5 (by decide)
theorem td_isWay {post : Int32 → Prop} {a : Int32} (h1 : td_w a → post 1) (h0 : ¬ td_w a → post 0) : wpX_isWay post () a := by
  refine br_c (fun g => h0 (td_w_neg g)) (fun g => ?_)
  obtain ⟨k, hk, rfl⟩ := nI_of g
  have N : ¬ td_wn k → post 0 := fun z => h0 (td_w_n hk z)
  refine pk_lt 4095 k (fun z => N ?_) (fun z => ?_)
  · rintro ⟨_, _, _⟩
    omega
  · refine pk_le (k % 4) 2 (fun z2 => ?_) (fun z2 => N ?_) (td_m hk) rfl
    · refine pk_lt (k / 128) 1 (fun z3 => N ?_) (fun z3 => ?_) (td_l hk) rfl
      · rintro ⟨_, _, _⟩
        omega
      · refine pk_lt 20 (k / 4 % 32 + k / 128) (fun z4 => N ?_) (fun z4 => h1 ⟨k, hk, rfl, by omega, z3, z4⟩) rfl ?_
        · rintro ⟨_, _, _⟩
          omega
        · rw [td_s hk, td_l hk, nI_add]
    · rintro ⟨_, _, _⟩
      omega
theorem td_Lway {post : Int32 → Prop} {a : Int32} (h1 : td_w a → post 1) (h0 : ¬ td_w a → post 0) : wpL_way post () a := by
  refine nm_e (nm_e ?_)
  refine br_c (fun g => h0 (td_w_neg g)) (fun g => ?_)
  obtain ⟨k, hk, rfl⟩ := nI_of g
  have N : ¬ td_wn k → post 0 := fun z => h0 (td_w_n hk z)
  rw [td_m hk, td_s hk, td_l hk]
  refine pk_le 3 (k % 4) (fun z => N ?_) (fun z => ?_)
  · rintro ⟨_, _, _⟩
    omega
  · refine pk_lt 19 (k / 4 % 32) (fun z2 => N ?_) (fun z2 => ?_)
    · rintro ⟨_, _, _⟩
      omega
    · refine pk_lt (k / 128) 1 (fun z3 => N ?_) (fun z3 => ?_)
      · rintro ⟨_, _, _⟩
        omega
      · refine pk_lt 20 (k / 128) (fun z4 => N ?_) (fun z4 => ?_)
        · rintro ⟨_, _, _⟩
          omega
        · refine pk_lt 20 (k / 4 % 32 + k / 128) (fun z5 => N ?_) (fun z5 => h1 ⟨k, hk, rfl, z, z3, z5⟩) rfl (nI_add _ _)
          rintro ⟨_, _, _⟩
          omega
theorem td_16 : ∀ k, k < 4096 → (nI k).toInt16.toInt32 = nI k := by decide +kernel
theorem td_short {a : Int32} (h : td_w a) : a.toInt16.toInt32 = a := by
  obtain ⟨k, hk, rfl, _, _, _⟩ := h
  exact td_16 k (by omega)

-- the calls, over a desk with no job, or job 0 alone
/-- the ways once job 0 is placed -/
def td_wy (a1 : Nat → Int32) (a b : Int32) : Nat → Int32 := upd (upd a1 0 a.toInt16.toInt32) 1 b.toInt16.toInt32
theorem td_place {post : St2 → Prop} {pw kn fi a b : Int32} {a1 a2 : Nat → Int32} (h : post (1, 0, pw, 0, fi, td_wy a1 a b, a2)) : wpX_place post (0, 0, pw, kn, fi, a1, a2) 0 a b :=
  nm_r (e' := 1) (by decide) (nm_r (e' := 0) (by decide) ⟨pk_in 0 16 (by omega), nm_r (e' := upd a1 0 a.toInt16.toInt32) rfl ⟨pk_in 1 16 (by omega), nm_r (e' := td_wy a1 a b) rfl h⟩⟩)
theorem td_r00 : ¬ td_r ((1 : Int32) <<< ((2 * 0) &&& 31)) 1 2 = 0 := by decide +kernel
theorem td_r00b : ¬ td_r ((2 : Int32) <<< ((2 * 0) &&& 31)) 1 2 = 0 := by decide +kernel
theorem td_r10 : ¬ td_r ((1 : Int32) <<< ((2 * 0) &&& 31)) 1 3 = 0 := by decide +kernel
theorem td_r10b : td_r ((2 : Int32) <<< ((2 * 0) &&& 31)) 1 3 = 0 := by decide +kernel
theorem td_r11 : td_r ((1 : Int32) <<< ((2 * 0) &&& 31)) 3 2 = 0 := by decide +kernel
theorem td_r11b : ¬ td_r ((2 : Int32) <<< ((2 * 0) &&& 31)) 3 2 = 0 := by decide +kernel
theorem td_probe {post : Int32 → St2 → Prop} {kn fi a b : Int32} {a1 a2 : Nat → Int32}
    (h0 : ¬ (td_w a ∧ td_w b) → post (-1) (0, 0, 0, kn, fi, a1, a2))
    (h1 : td_w a ∧ td_w b → ∀ f w x, post 0 (0, 0, 0, 0, f, w, x)) : wpX_probe post (0, 0, 0, kn, fi, a1, a2) a b := by
  unfold wpX_probe
  dsimp only
  refine td_isWay (fun ha => br_f (by decide) (td_isWay (fun hb => br_f (by decide) ⟨1, ?_⟩) (fun hb => br_t rfl (h0 (fun z => hb z.2))))) (fun ha => br_t rfl (h0 (fun z => ha z.1)))
  refine br_f (by decide) (td_h0 (br_t rfl (td_place (td_solv td_T00 (Or.inl td_r00) (fun f x _ => nm_r (e' := 0) (by decide) (br_f (by decide) (h1 ⟨ha, hb⟩ _ _ _)))))))
theorem td_offer {post : Int32 → St2 → Prop} {kn fi a b : Int32} {a1 a2 : Nat → Int32}
    (h0 : ¬ (td_w a ∧ td_w b) → post (-1) (0, 0, 0, kn, fi, a1, a2))
    (h1 : td_w a ∧ td_w b → ∀ f w x, post 0 (1, 0, 0, 0, f, td_wy w a b, x)) : wpX_offer post (0, 0, 0, kn, fi, a1, a2) a b := by
  unfold wpX_offer
  dsimp only
  exact td_probe (fun g => br_t (by decide) (h0 g)) (fun g f w x => br_f (by decide) (td_place (h1 g f w x)))

theorem td_way0 {post : Int32 → Prop} {pn pw kn fi : Int32} {a1 a2 : Nat → Int32} (v : Int32) (hv : a1 0 = v) (h : post v) : wpX_way post (1, pn, pw, kn, fi, a1, a2) 0 0 := by
  subst hv
  unfold wpX_way
  dsimp only
  exact td_hT (br_f (by decide) (br_t rfl (br_f (by decide) ⟨pk_in 0 16 (by omega), h⟩)))
theorem td_way1 {post : Int32 → Prop} {pn pw kn fi : Int32} {a1 a2 : Nat → Int32} (v : Int32) (hv : a1 1 = v) (h : post v) : wpX_way post (1, pn, pw, kn, fi, a1, a2) 0 1 := by
  subst hv
  unfold wpX_way
  dsimp only
  exact td_hT (br_f (by decide) (br_f (by decide) (br_t rfl (br_f (by decide) ⟨pk_in 1 16 (by omega), h⟩))))
theorem td_wy0 {w : Nat → Int32} {a b : Int32} (h : td_w a) : td_wy w a b 0 = a := by
  unfold td_wy
  rw [pk_un (by omega), pk_us]
  exact td_short h
theorem td_wy1 {w : Nat → Int32} {a b : Int32} (h : td_w b) : td_wy w a b 1 = b := by
  unfold td_wy
  rw [pk_us]
  exact td_short h
theorem td_p67 {post : Int32 → St2 → Prop} {x2 x3 x4 z0 pw kn fi z v0 v1 : Int32} {a1 a2 : Nat → Int32} (hz : z0 = z) (hT : td_T 1 z v0 v1)
    (hs : ¬ td_r ((1 : Int32) <<< ((2 * 0) &&& 31)) v0 v1 = 0 ∨ ¬ td_r ((2 : Int32) <<< ((2 * 0) &&& 31)) v0 v1 = 0)
    (H : ∀ f a, td_A v0 v1 16 a → post x2 (1, 1, z, 1, f, a1, a)) : wX_pin_67 post x2 x3 x4 z0 1 1 pw kn fi a1 a2 := by
  subst hz
  exact td_solv hT hs (fun f a hA => br_f (by decide) (H f a hA))
theorem td_pin0 {post : Int32 → St2 → Prop} {kn fi : Int32} {a1 a2 : Nat → Int32} (H : ∀ f a, td_A 1 3 16 a → post 0 (1, 1, 0, 1, f, a1, a)) : wpX_pin post (1, 0, 0, kn, fi, a1, a2) 0 0 := by
  unfold wpX_pin
  dsimp only
  exact td_hT (br_f (by decide) (br_t rfl (br_f (by decide) (nm_r (e' := 1) (by decide) (br_f (by decide) (td_p67 (by decide) td_T10 (Or.inl td_r10) H))))))
theorem td_pin1 {post : Int32 → St2 → Prop} {kn fi : Int32} {a1 a2 : Nat → Int32} (H : ∀ f a, td_A 3 2 16 a → post 1 (1, 1, 1, 1, f, a1, a)) : wpX_pin post (1, 0, 0, kn, fi, a1, a2) 0 1 := by
  unfold wpX_pin
  dsimp only
  exact td_hT (br_f (by decide) (br_f (by decide) (br_t rfl (br_f (by decide) (nm_r (e' := 1) (by decide) (br_t rfl (td_p67 (by decide) td_T11 (Or.inr td_r11b) H)))))))
theorem td_frc0 {post : Int32 → St2 → Prop} {fi : Int32} {a1 a2 : Nat → Int32} (hA : td_A 1 3 16 a2) (h : post 0 (1, 1, 0, 1, fi, a1, a2)) : wpX_forced post (1, 1, 0, 1, fi, a1, a2) 0 := by
  unfold wpX_forced
  dsimp only
  exact td_hT (br_f (by decide) (br_f (by decide) (td_pos hA _ rfl (br_f td_r10 (td_pos hA _ rfl (br_t td_r10b h))))))
theorem td_frc1 {post : Int32 → St2 → Prop} {fi : Int32} {a1 a2 : Nat → Int32} (hA : td_A 3 2 16 a2) (h : post 1 (1, 1, 1, 1, fi, a1, a2)) : wpX_forced post (1, 1, 1, 1, fi, a1, a2) 0 := by
  unfold wpX_forced
  dsimp only
  exact td_hT (br_f (by decide) (br_f (by decide) (td_pos hA _ rfl (br_t td_r11 h))))
/-- no pin: neither way is forced -/
theorem td_frc {post : Int32 → St2 → Prop} {fi : Int32} {a1 a2 : Nat → Int32} (H : ∀ f a, post (-1) (1, 0, 0, 1, f, a1, a)) : wpX_forced post (1, 0, 0, 0, fi, a1, a2) 0 := by
  unfold wpX_forced
  dsimp only
  exact td_hT (br_f (by decide) (td_learn td_T00 (fun f a hA => td_pos hA _ rfl (br_f td_r00 (td_pos hA _ rfl (br_f td_r00b (H f a)))))))
-- a number that is no job's
theorem td_wayF {post : Int32 → Prop} {pn pw kn fi j k : Int32} {a1 a2 : Nat → Int32} (hj : ¬ j = 0) (h : post (-1)) : wpX_way post (1, pn, pw, kn, fi, a1, a2) j k := by
  unfold wpX_way
  dsimp only
  exact td_hF hj (br_t rfl h)
theorem td_pinF {post : Int32 → St2 → Prop} {pn pw kn fi j k : Int32} {a1 a2 : Nat → Int32} (hj : ¬ j = 0) (h : post (-1) (1, pn, pw, kn, fi, a1, a2)) : wpX_pin post (1, pn, pw, kn, fi, a1, a2) j k := by
  unfold wpX_pin
  dsimp only
  exact td_hF hj (br_t rfl h)
theorem td_frcF {post : Int32 → St2 → Prop} {pn pw kn fi j : Int32} {a1 a2 : Nat → Int32} (hj : ¬ j = 0) (h : post (-1) (1, pn, pw, kn, fi, a1, a2)) : wpX_forced post (1, pn, pw, kn, fi, a1, a2) j := by
  unfold wpX_forced
  dsimp only
  exact td_hF hj (br_t rfl h)
theorem td_unpF {post : Int32 → St2 → Prop} {pn pw kn fi j : Int32} {a1 a2 : Nat → Int32} (hj : ¬ j = 0) (h : post 0 (1, pn, pw, kn, fi, a1, a2)) : wpX_unpin post (1, pn, pw, kn, fi, a1, a2) j := by
  unfold wpX_unpin
  dsimp only
  exact td_hF hj (br_t rfl h)
theorem td_wayE {post : Int32 → Prop} {pn pw kn fi j k : Int32} {a1 a2 : Nat → Int32} (h : post (-1)) : wpX_way post (0, pn, pw, kn, fi, a1, a2) j k := by
  unfold wpX_way
  dsimp only
  exact td_h0 (br_t rfl h)
theorem td_pinE {post : Int32 → St2 → Prop} {pn pw kn fi j k : Int32} {a1 a2 : Nat → Int32} (h : post (-1) (0, pn, pw, kn, fi, a1, a2)) : wpX_pin post (0, pn, pw, kn, fi, a1, a2) j k := by
  unfold wpX_pin
  dsimp only
  exact td_h0 (br_t rfl h)
theorem td_frcE {post : Int32 → St2 → Prop} {pn pw kn fi j : Int32} {a1 a2 : Nat → Int32} (h : post (-1) (0, pn, pw, kn, fi, a1, a2)) : wpX_forced post (0, pn, pw, kn, fi, a1, a2) j := by
  unfold wpX_forced
  dsimp only
  exact td_h0 (br_t rfl h)
theorem td_unpE {post : Int32 → St2 → Prop} {pn pw kn fi j : Int32} {a1 a2 : Nat → Int32} (h : post 0 (0, pn, pw, kn, fi, a1, a2)) : wpX_unpin post (0, pn, pw, kn, fi, a1, a2) j := by
  unfold wpX_unpin
  dsimp only
  exact td_h0 (br_t rfl h)
-- a number that is no way's
theorem td_wayN {post : Int32 → Prop} {pn pw kn fi k : Int32} {a1 a2 : Nat → Int32} (k0 : ¬ k = 0) (k1 : ¬ k = 1) (h : post (-1)) : wpX_way post (1, pn, pw, kn, fi, a1, a2) 0 k := by
  unfold wpX_way
  dsimp only
  exact td_hT (br_f (by decide) (br_f k0 (br_f k1 (br_t rfl h))))
theorem td_pinN {post : Int32 → St2 → Prop} {pn pw kn fi k : Int32} {a1 a2 : Nat → Int32} (k0 : ¬ k = 0) (k1 : ¬ k = 1) (h : post (-1) (1, pn, pw, kn, fi, a1, a2)) : wpX_pin post (1, pn, pw, kn, fi, a1, a2) 0 k := by
  unfold wpX_pin
  dsimp only
  exact td_hT (br_f (by decide) (br_f k0 (br_f k1 (br_t rfl h))))
theorem td_unp0 {post : Int32 → St2 → Prop} {pw kn fi : Int32} {a1 a2 : Nat → Int32} (h : post 0 (1, 0, pw, kn, fi, a1, a2)) : wpX_unpin post (1, 0, pw, kn, fi, a1, a2) 0 := by
  unfold wpX_unpin
  dsimp only
  exact td_hT (br_f (by decide) (br_t (by decide) h))
theorem td_unp1 {post : Int32 → St2 → Prop} {pw kn fi : Int32} {a1 a2 : Nat → Int32} (h : post 1 (1, 0, pw, 0, fi, a1, a2)) : wpX_unpin post (1, 1, pw, kn, fi, a1, a2) 0 := by
  unfold wpX_unpin
  dsimp only
  exact td_hT (br_f (by decide) (br_f (by decide) (nm_r (e' := 0) (by decide) h)))
end
section
-- the law's last line
theorem td_e0 {mc ms kc ks : Nat} {x0 x1 x3 : Int32} : wL_lawOf_117 (fun r _ => r = 1) mc ms x0 x1 x3 (-1) (-1) (-1) (-1) (-1) 0 0 0 kc ks :=
  br_t rfl (br_t rfl (br_t rfl (br_t rfl (br_t rfl (br_t rfl (br_t rfl (br_t rfl (br_t rfl (br_t rfl rfl)))))))))
theorem td_e1 {mc ms kc ks : Nat} {x0 x1 x3 : Int32} : wL_lawOf_117 (fun r _ => r = 1) mc ms x0 x1 x3 0 0 (-1) (-1) (-1) 0 1 0 kc ks :=
  br_f (by decide) (br_t rfl (br_t rfl (br_t rfl (br_t rfl (br_t rfl (br_t rfl (br_t rfl (br_t rfl (br_t rfl rfl)))))))))
theorem td_e2 {mc ms kc ks : Nat} {x0 x1 : Int32} : wL_lawOf_117 (fun r _ => r = 1) mc ms x0 x1 0 0 0 x0 0 0 1 1 1 kc ks :=
  br_f (by decide) (br_t rfl (br_t rfl (br_f (by decide) (br_t rfl (br_t rfl (br_f (by decide) (br_t rfl (br_f (by decide) (br_t rfl (br_t rfl rfl))))))))))
theorem td_e3 {mc ms kc ks : Nat} {x0 x1 : Int32} : wL_lawOf_117 (fun r _ => r = 1) mc ms x0 x1 1 0 0 x1 1 1 1 1 1 kc ks :=
  br_f (by decide) (br_t rfl (br_t rfl (br_f (by decide) (br_f (by decide) (br_t rfl (br_f (by decide) (br_t rfl (br_f (by decide) (br_t rfl (br_t rfl rfl))))))))))

theorem td_good {A B C : Int32 → Prop} {a b : Int32} (g : td_w a ∧ td_w b) (h : C 1) : wpL_way (fun r => (r = 0 → A r) ∧ (¬ r = 0 → wpL_way (fun q => (q = 0 → B q) ∧ (¬ q = 0 → C q)) () b)) () a :=
  td_Lway (fun _ => br_f (by decide) (td_Lway (fun _ => br_f (by decide) h) (fun hb => absurd g.2 hb))) (fun ha => absurd g.1 ha)
theorem td_bad {A : Prop} {C : Int32 → Prop} {a b : Int32} (g : ¬ (td_w a ∧ td_w b)) (h : A) : wpL_way (fun r => (r = 0 → A) ∧ (¬ r = 0 → wpL_way (fun q => (q = 0 → A) ∧ (¬ q = 0 → C q)) () b)) () a :=
  td_Lway (fun ha => br_f (by decide) (td_Lway (fun hb => absurd ⟨ha, hb⟩ g) (fun _ => br_t rfl h))) (fun _ => br_t rfl h)

theorem td_main (mc ms : Nat) (hc : 3 ≤ mc) (hs : 39 ≤ ms) (a b j k : Int32) : wpL_lawOf (fun r _ => r = 1) mc ms () a b j k := by
  refine ⟨by omega, by omega, 2, 32, by omega, by omega, by omega, by omega, by omega, by omega, ?_⟩
  by_cases g : td_w a ∧ td_w b
  · refine td_probe (fun z => absurd g z) (fun _ f0 w0 t0 => td_offer (fun z => absurd g z) (fun _ f w t => ?_))
    by_cases hj : j = 0
    · subst hj
      by_cases k0 : k = 0
      · subst k0
        refine td_way0 a (td_wy0 g.1) (td_pin0 (fun f' t' hA => td_frc0 hA (td_unp1 ?_)))
        exact td_good (A := fun _ => _) (B := fun _ => _) (C := fun _ => _) g (br_f (by decide) (br_t rfl (br_f (by decide) (br_t rfl td_e2))))
      · by_cases k1 : k = 1
        · subst k1
          refine td_way1 b (td_wy1 g.2) (td_pin1 (fun f' t' hA => td_frc1 hA (td_unp1 ?_)))
          exact td_good (A := fun _ => _) (B := fun _ => _) (C := fun _ => _) g (br_f (by decide) (br_t rfl (br_f (by decide) (br_f (by decide) (br_t rfl td_e3)))))
        · refine td_wayN k0 k1 (td_pinN k0 k1 (td_frc (fun f' t' => td_unp0 ?_)))
          exact td_good (A := fun _ => _) (B := fun _ => _) (C := fun _ => _) g (br_f (by decide) (br_t rfl (br_f (by decide) (br_f k0 (br_f k1 td_e1)))))
    · refine td_wayF hj (td_pinF hj (td_frcF hj (td_unpF hj ?_)))
      exact td_good (A := fun _ => _) (B := fun _ => _) (C := fun _ => _) g (br_f (by decide) (br_f hj (br_t rfl td_e1)))
  · refine td_probe (fun _ => td_offer (fun _ => ?_) (fun z => absurd z g)) (fun z => absurd z g)
    refine td_wayE (td_pinE (td_frcE (td_unpE ?_)))
    exact td_bad (C := fun _ => _) g (br_t rfl (br_t rfl td_e0))

theorem td_cell {post : Int32 → Prop} {L : Nat} {xs : Nat → Int32} {p : Int32} (i : Nat) (hp : p = nI i) (hi : i < 4) (hL : L ≤ 4) (h : ∀ r, post r) : wpL_cellAt post L xs () p :=
  pk_le L i (fun _ => h _) (fun z => ⟨pk_in i L z hp, h _⟩) rfl hp
theorem i_vc (xs : Nat → Int32) (L : Nat) (hL : L ≤ 4) : wpL_law (fun r => r = 1) L xs :=
  td_cell 0 rfl (by omega) hL (fun a => td_cell 1 rfl (by omega) hL (fun b => td_cell 2 rfl (by omega) hL (fun j => td_cell 3 rfl (by omega) hL (fun k => ⟨18, 272, by omega, by omega, td_main 18 272 (by omega) (by omega) a b j k⟩))))
end
