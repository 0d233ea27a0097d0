section
/-! the pure picture: kinds, values of the places; holders of the blobs -/
abbrev ph_S : Type := (Nat → Int32) × (Nat → Int32) × (Nat → Int32)
def ph_hd (h : Nat → Int32) (k v : Int32) : Nat → Int32 := if k = 3 then upd h v.toNatClampNeg (h v.toNatClampNeg + 1) else h
def ph_lg (h : Nat → Int32) (k v : Int32) : Nat → Int32 := if k = 3 then upd h v.toNatClampNeg (h v.toNatClampNeg - 1) else h
def ph_as (s : ph_S) (p : Nat) (k v : Int32) : ph_S := (upd s.1 p k, upd s.2.1 p v, ph_lg (ph_hd s.2.2 k v) (s.1 p) (s.2.1 p))
def ph_g (x : Int32) : Int32 := if x ≤ 0 then 0 else 1
def ph_cnt (h : Nat → Int32) : Int32 := 0 + ph_g (h 0) + ph_g (h 1) + ph_g (h 2) + ph_g (h 3) + ph_g (h 4) + ph_g (h 5)
def ph_lfr (h : Nat → Int32) : Nat → Nat → Int32
  | 0, _ => 0
  | n + 1, i => if h i = 0 then nI i else ph_lfr h n (i + 1)
def ph_lf (h : Nat → Int32) : Int32 := ph_lfr h 6 0
def ph_id (s : ph_S) (p : Nat) : Int32 := ph_lf (ph_as s p 0 0).2.2
def ph_bl (s : ph_S) (p : Nat) : ph_S := ph_as (ph_as s p 0 0) p 3 (ph_id s p)
/-- a blob's number is in range -/
abbrev ph_b (v : Int32) : Prop := 0 ≤ v.toInt ∧ v.toInt < 6
theorem ph_bin {v : Int32} (h : ph_b v) : vp_in v 6 := vp_in_iff.mpr h
/-- an assignment meets no index out of range -/
abbrev ph_ok (s : ph_S) (p : Nat) (k v : Int32) : Prop := (k = 3 → ph_b v) ∧ (s.1 p = 3 → ph_b (s.2.1 p))
section
variable {l : Int32} {a1 a2 a3 a4 a5 a6 a7 a8 a9 a10 a11 a12 : Nat → Int32} {s : ph_S}
theorem ph_hold {post : St2 → Prop} {k v : Int32} (hv : k = 3 → ph_b v) (hp : post (l, a1, a2, a3, a4, a5, a6, a7, a8, a9, a10, ph_hd a11 k v, a12)) : wpX_hold post (l, a1, a2, a3, a4, a5, a6, a7, a8, a9, a10, a11, a12) k v := by
  by_cases h : k = 3
  · rw [show ph_hd a11 k v = upd a11 v.toNatClampNeg (a11 v.toNatClampNeg + 1) from if_pos h] at hp
    exact br_t h ⟨ph_bin (hv h), ph_bin (hv h), nm_e hp⟩
  · rw [show ph_hd a11 k v = a11 from if_neg h] at hp
    exact br_f h hp
theorem ph_letGo {post : St2 → Prop} {k v : Int32} (hv : k = 3 → ph_b v) (hp : post (l, a1, a2, a3, a4, a5, a6, a7, a8, a9, a10, ph_lg a11 k v, a12)) : wpX_letGo post (l, a1, a2, a3, a4, a5, a6, a7, a8, a9, a10, a11, a12) k v := by
  by_cases h : k = 3
  · rw [show ph_lg a11 k v = upd a11 v.toNatClampNeg (a11 v.toNatClampNeg - 1) from if_pos h] at hp
    exact br_t h ⟨ph_bin (hv h), ph_bin (hv h), nm_e hp⟩
  · rw [show ph_lg a11 k v = a11 from if_neg h] at hp
    exact br_f h hp
theorem ph_asg {post : St2 → Prop} {k v : Int32} {p : Nat} (hq : p < 21) (hk : ph_ok s p k v) (hp : post (l, (ph_as s p k v).1, (ph_as s p k v).2.1, a3, a4, a5, a6, a7, a8, a9, a10, (ph_as s p k v).2.2, a12)) : wpX_assign post (l, s.1, s.2.1, a3, a4, a5, a6, a7, a8, a9, a10, s.2.2, a12) (nI p) k v := by
  have ep : (nI p).toNatClampNeg = p := nI_clamp (by omega)
  have hi : vp_in (nI p) 21 := pk_in p 21 hq
  unfold wpX_assign
  rw [ep]
  refine ph_hold hk.1 ?_
  refine ⟨hi, hi, ph_letGo hk.2 ?_⟩
  exact ⟨hi, nm_e ⟨hi, nm_e hp⟩⟩
theorem ph_kstep {post : Int32 → Prop} {n i : Nat} {x : Int32} (hi : i < 6) (H : wX_keptBlobs_4 post l a1 a2 a3 a4 a5 a6 a7 a8 a9 a10 a11 a12 n (x + ph_g (a11 i)) (nI (i + 1))) : wX_keptBlobs_4 post l a1 a2 a3 a4 a5 a6 a7 a8 a9 a10 a11 a12 (n + 1) x (nI i) := by
  refine pk_le 6 i (fun z => absurd z (by omega)) (fun _ => ⟨pk_in i 6 hi, ?_⟩)
  rw [nI_clamp (show i < 2 ^ 31 by omega)]
  by_cases g : a11 i ≤ 0
  · rw [show ph_g (a11 i) = 0 from if_pos g, Int32.add_zero] at H
    exact br_t g (nm_r (nI_1 i) H)
  · rw [show ph_g (a11 i) = 1 from if_neg g] at H
    exact br_f g (nm_e (nm_r (nI_1 i) H))
theorem ph_kept {post : Int32 → Prop} (hp : post (ph_cnt a11)) : wpX_keptBlobs post (l, a1, a2, a3, a4, a5, a6, a7, a8, a9, a10, a11, a12) := by
  have H : wX_keptBlobs_4 post l a1 a2 a3 a4 a5 a6 a7 a8 a9 a10 a11 a12 7 0 (nI 0) := by
    refine ph_kstep (by decide) (ph_kstep (by decide) (ph_kstep (by decide) (ph_kstep (by decide) (ph_kstep (by decide) (ph_kstep (by decide) ?_)))))
    exact pk_le 6 6 (fun _ => hp) (fun z => absurd z (by omega))
  exact ⟨7, H⟩
theorem ph_blobs {post : Int32 → Prop} (hp : post (ph_cnt a11)) : wpX_blobs post (l, a1, a2, a3, a4, a5, a6, a7, a8, a9, a10, a11, a12) := by
  unfold wpX_blobs
  exact ph_kept hp
theorem ph_lstep {post : Int32 → Prop} : ∀ n i : Nat, n + i = 6 → post (ph_lfr a11 n i) → wX_leastFreeBlob_2 post l a1 a2 a3 a4 a5 a6 a7 a8 a9 a10 a11 a12 (n + 1) (nI i) := by
  intro n
  induction n with
  | zero =>
    intro i hi hp
    exact pk_le 6 i (fun _ => hp) (fun z => absurd z (by omega))
  | succ n ih =>
    intro i hi hp
    refine pk_le 6 i (fun z => absurd z (by omega)) (fun _ => ⟨pk_in i 6 (by omega), ?_⟩)
    rw [nI_clamp (show i < 2 ^ 31 by omega)]
    by_cases g : a11 i = 0
    · rw [show ph_lfr a11 (n + 1) i = nI i from if_pos g] at hp
      exact br_t g hp
    · rw [show ph_lfr a11 (n + 1) i = ph_lfr a11 n (i + 1) from if_neg g] at hp
      exact br_f g (nm_r (nI_1 i) (ih (i + 1) (by omega) hp))
theorem ph_least {post : Int32 → Prop} (hp : post (ph_lf a11)) : wpX_leastFreeBlob post (l, a1, a2, a3, a4, a5, a6, a7, a8, a9, a10, a11, a12) :=
  ⟨7, ph_lstep (l := l) (a1 := a1) (a2 := a2) (a3 := a3) (a4 := a4) (a5 := a5) (a6 := a6) (a7 := a7) (a8 := a8) (a9 := a9) (a10 := a10) (a12 := a12) 6 0 rfl hp⟩
end
/-! 'fits', by the register's number: c < 4 the register itself, c = 4 for every int that is none -/
def ph_R (x : Int32) (c : Nat) : Prop := (c < 4 ∧ x = nI c) ∨ (c = 4 ∧ (x < 0 ∨ 3 < x))
theorem ph_R5 {x : Int32} {c : Nat} (h : ph_R x c) : c < 5 := by
  rcases h with ⟨h, _⟩ | ⟨h, _⟩ <;> omega
theorem ph_cls (x : Int32) : ∃ c, ph_R x c := by
  rcases pk_ix x (n := 4) (by decide) with h | h | ⟨j, hj, e⟩
  · exact ⟨4, Or.inr ⟨rfl, Or.inl h⟩⟩
  · refine ⟨4, Or.inr ⟨rfl, Or.inr ?_⟩⟩
    rw [Int32.le_iff_toInt_le, nI_toInt (by decide)] at h
    rw [Int32.lt_iff_toInt_lt, show (3 : Int32).toInt = 3 from by decide]
    omega
  · exact ⟨j, Or.inl ⟨hj, e⟩⟩
theorem ph_n3 {k : Nat} (hk : k < 4) : ¬ (3 : Int32) < nI k := nI_nlt (a := 3) (by omega) (by decide)
theorem ph_no {x : Int32} {k : Nat} (h : x < 0 ∨ 3 < x) (hk : k < 4) : ¬ x = nI k := by
  intro e
  rw [e] at h
  rcases h with h | h
  · exact nI_pos (by omega) h
  · exact ph_n3 hk h
theorem ph_same {x y : Int32} {c d : Nat} (hx : ph_R x c) (hy : ph_R y d) (hd : d < 4) : x = y ↔ c = d := by
  rcases hy with ⟨_, ey⟩ | ⟨z, _⟩
  · rcases hx with ⟨hc, ex⟩ | ⟨hc, hx⟩
    · rw [ex, ey]
      exact nI_eq (by omega) (by omega)
    · rw [ey]
      exact ⟨fun e => absurd e (ph_no hx hd), fun e => by omega⟩
  · omega
theorem ph_bad {A B : Prop} {x : Int32} {c : Nat} (h : ph_R x c) (f : ¬ c < 4 → A) (g : c < 4 → B) : (x < 0 → A) ∧ (¬ x < 0 → ((3 < x → A) ∧ (¬ 3 < x → B))) := by
  rcases h with ⟨hc, rfl⟩ | ⟨hc, hx⟩
  · exact br_f (nI_pos (by omega)) (br_f (ph_n3 hc) (g hc))
  · refine br_c (fun _ => f (by omega)) (fun z => br_c (fun _ => f (by omega)) (fun z' => ?_))
    rcases hx with h | h
    · exact absurd h z
    · exact absurd h z'
theorem ph_fit1 {post : Int32 → Prop} {k : Nat} (hk : k < 4) (hp : post 1) : wpX_fits post () 1 (nI k) :=
  br_f (by decide) (br_f (by decide) (br_f (nI_pos (by omega)) (br_f (ph_n3 hk) hp)))
theorem ph_fit0 {post : Int32 → Prop} {x : Int32} (h : x < 0 ∨ 3 < x) (hp : post 0) : wpX_fits post () 1 x :=
  br_f (by decide) (br_f (by decide) (br_c (fun _ => hp) (fun z => br_c (fun _ => hp) (fun z' => absurd h (fun q => q.elim z z')))))
theorem ph_pl (k : Nat) : (4 * 1 : Int32) + nI k = nI (4 + k) := by
  rw [show (4 * 1 : Int32) = nI 4 from by decide, nI_add]
end
section
/-! the calls over the pure picture -/
def ph_mv (s : ph_S) (c : Nat) : ph_S := if c < 4 then ph_as s (4 + c) (s.1 4) (s.2.1 4) else s
def ph_nu (s : ph_S) (e : Nat) : ph_S := if e < 4 then ph_as s (4 + e) 1 7 else s
def ph_bb (s : ph_S) (d : Nat) : ph_S := if d < 4 then ph_bl s (4 + d) else s
def ph_bi (s : ph_S) (d : Nat) : Int32 := if d < 4 then ph_id s (4 + d) else -1
def ph_rt (c : Nat) : Int32 := if c < 4 then 0 else -1
abbrev ph_okb (s : ph_S) (d : Nat) : Prop := (s.1 (4 + d) = 3 → ph_b (s.2.1 (4 + d))) ∧ ph_cnt s.2.2 - 0 < 6 ∧ ph_cnt s.2.2 - 1 < 6 ∧ ph_b (ph_id s (4 + d))
section
variable {l : Int32} {a3 a4 a5 a6 a7 a8 a9 a10 a12 : Nat → Int32} {s : ph_S} {post : Int32 → St2 → Prop}
theorem ph_blob {x : Int32} {d : Nat} (hx : ph_R x d) (ho : d < 4 → ph_okb s d) (hp : post (ph_bi s d) (l, (ph_bb s d).1, (ph_bb s d).2.1, a3, a4, a5, a6, a7, a8, a9, a10, (ph_bb s d).2.2, a12)) : wpX_blob post (l, s.1, s.2.1, a3, a4, a5, a6, a7, a8, a9, a10, s.2.2, a12) 1 x := by
  rcases hx with ⟨hd, rfl⟩ | ⟨hd, hx⟩
  · rw [show ph_bi s d = ph_id s (4 + d) from if_pos hd, show ph_bb s d = ph_bl s (4 + d) from if_pos hd] at hp
    obtain ⟨h1, r0, r1, h2⟩ := ho hd
    have ep : (nI (4 + d)).toNatClampNeg = 4 + d := nI_clamp (by omega)
    have hi : vp_in (nI (4 + d)) 21 := pk_in (4 + d) 21 (by omega)
    have Q62 : ∀ z : Int32, ph_cnt s.2.2 - z < 6 → wX_blob_62 post (nI (4 + d)) z (ph_cnt s.2.2) l s.1 s.2.1 a3 a4 a5 a6 a7 a8 a9 a10 s.2.2 a12 := by
      intro z hz
      unfold wX_blob_62
      refine br_t hz ?_
      refine ph_asg (by omega) ⟨fun e => absurd e (by decide), h1⟩ ?_
      refine ph_least ?_
      refine ph_asg (s := ph_as s (4 + d) 0 0) (by omega) ⟨fun _ => h2, fun e => ?_⟩ hp
      exact absurd ((pk_us (f := s.1) (k := 4 + d) (x := 0)).symm.trans e) (by decide)
    have Q46 : ∀ z : Int32, wX_blob_46 post (nI (4 + d)) z l s.1 s.2.1 a3 a4 a5 a6 a7 a8 a9 a10 s.2.2 a12 := by
      intro z
      unfold wX_blob_46
      exact ph_kept (br_c (fun _ => Q62 0 r0) (fun _ => Q62 1 r1))
    have Q45 : wX_blob_45 post (nI (4 + d)) l s.1 s.2.1 a3 a4 a5 a6 a7 a8 a9 a10 s.2.2 a12 := Q46 0
    unfold wpX_blob
    refine ph_fit1 hd ?_
    refine br_f (by decide) (nm_r (ph_pl d) ⟨hi, ?_⟩)
    rw [ep]
    exact br_c (fun e => ⟨hi, ph_bin (h1 e), br_c (fun _ => Q46 1) (fun _ => Q45)⟩) (fun _ => Q45)
  · rw [show ph_bi s d = -1 from if_neg (by omega), show ph_bb s d = s from if_neg (by omega)] at hp
    unfold wpX_blob
    exact ph_fit0 hx (br_t rfl hp)
theorem ph_move {x : Int32} {c : Nat} (hx : ph_R x c) (ho : c < 4 → ph_ok s (4 + c) (s.1 4) (s.2.1 4)) (hp : post (ph_rt c) (l, (ph_mv s c).1, (ph_mv s c).2.1, a3, a4, a5, a6, a7, a8, a9, a10, (ph_mv s c).2.2, a12)) : wpX_move post (l, s.1, s.2.1, a3, a4, a5, a6, a7, a8, a9, a10, s.2.2, a12) 1 x 0 := by
  rcases hx with ⟨hc, rfl⟩ | ⟨hc, hx⟩
  · rw [show ph_rt c = 0 from if_pos hc, show ph_mv s c = ph_as s (4 + c) (s.1 4) (s.2.1 4) from if_pos hc] at hp
    unfold wpX_move
    refine ph_fit1 hc ?_
    refine br_f (by decide) (ph_fit1 (k := 0) (by decide) ?_)
    refine br_f (by decide) (nm_r (ph_pl 0) ?_)
    refine ⟨pk_in 4 21 (by decide), pk_in 4 21 (by decide), ?_⟩
    rw [show (nI (4 + 0)).toNatClampNeg = 4 from nI_clamp (by decide), ph_pl c]
    exact ph_asg (by omega) (ho hc) hp
  · rw [show ph_rt c = -1 from if_neg (by omega), show ph_mv s c = s from if_neg (by omega)] at hp
    unfold wpX_move
    exact ph_fit0 hx (br_t rfl hp)
theorem ph_nil (ho : ph_ok s 4 0 0) (hp : post 0 (l, (ph_as s 4 0 0).1, (ph_as s 4 0 0).2.1, a3, a4, a5, a6, a7, a8, a9, a10, (ph_as s 4 0 0).2.2, a12)) : wpX_nil post (l, s.1, s.2.1, a3, a4, a5, a6, a7, a8, a9, a10, s.2.2, a12) 1 0 := by
  unfold wpX_nil
  refine ph_fit1 (k := 0) (by decide) ?_
  refine br_f (by decide) ?_
  rw [show (4 * 1 : Int32) + 0 = nI 4 from by decide]
  exact ph_asg (by decide) ho hp
theorem ph_number {x : Int32} {e : Nat} (hx : ph_R x e) (ho : e < 4 → ph_ok s (4 + e) 1 7) (hp : post (ph_rt e) (l, (ph_nu s e).1, (ph_nu s e).2.1, a3, a4, a5, a6, a7, a8, a9, a10, (ph_nu s e).2.2, a12)) : wpX_number post (l, s.1, s.2.1, a3, a4, a5, a6, a7, a8, a9, a10, s.2.2, a12) 1 x 7 := by
  rcases hx with ⟨he, rfl⟩ | ⟨he, hx⟩
  · rw [show ph_rt e = 0 from if_pos he, show ph_nu s e = ph_as s (4 + e) 1 7 from if_pos he] at hp
    unfold wpX_number
    refine ph_fit1 he ?_
    refine br_f (by decide) ?_
    rw [ph_pl e]
    exact ph_asg (by omega) (ho he) hp
  · rw [show ph_rt e = -1 from if_neg (by omega), show ph_nu s e = s from if_neg (by omega)] at hp
    unfold wpX_number
    exact ph_fit0 hx (br_t rfl hp)
end
/-- the constructor: only 'forward' (the tenth) is written -/
theorem ph_init {post : St2 → Prop} {mc ms : Nat} {l : Int32} (h1 : 12 ≤ mc) (h2 : 677 ≤ ms) (H : ∀ a : Nat → Int32, post (l, (fun _ => 0), (fun _ => 0), (fun _ => 0), (fun _ => 0), (fun _ => 0), (fun _ => 0), (fun _ => 0), (fun _ => 0), (fun _ => 0), a, (fun _ => 0), (fun _ => 0))) : wpX_init post mc ms l := by
  refine ⟨by omega, by omega, by omega, by omega, by omega, by omega, by omega, by omega, by omega, by omega, by omega, by omega, by omega, by omega, by omega, by omega, by omega, by omega, by omega, by omega, by omega, by omega, by omega, by omega, ?_⟩
  exact pk_loop (fun n i (a : Nat → Int32) => wX_init_99 post mc ms 12 677 l n (nI i) (fun _ => 0) (fun _ => 0) (fun _ => 0) (fun _ => 0) (fun _ => 0) (fun _ => 0) (fun _ => 0) (fun _ => 0) (fun _ => 0) a (fun _ => 0) (fun _ => 0)) (fun _ _ => True) 120 0 (fun _ => 0) (by omega) trivial
    (fun n a _ => pk_le 120 120 (fun _ => H a) (fun z => absurd z (by omega)))
    (fun n i a hi _ hw => pk_le 120 i (fun z => absurd z (by omega)) (fun _ => ⟨pk_in i 120 hi, nm_e (nm_r (nI_1 i) (hw _ trivial))⟩))
end
section
/-! what the law's states are, by the numbers of the three ints, and what it counts in them -/
def ph_n (p : Prop) [Decidable p] : Int32 := if p then 1 else 0
theorem ph_n1 {p : Prop} [Decidable p] (h : p) : ph_n p = 1 := if_pos h
theorem ph_n0 {p : Prop} [Decidable p] (h : ¬ p) : ph_n p = 0 := if_neg h
theorem ph_br {p A B : Prop} [Decidable p] (f : ¬ p → A) (g : p → B) : (ph_n p = 0 → A) ∧ (¬ ph_n p = 0 → B) := by
  by_cases h : p
  · exact br_f (by rw [ph_n1 h]; decide) (g h)
  · exact br_t (ph_n0 h) (f h)
abbrev ph_kp (c : Nat) : Prop := c < 4 ∧ c ≠ 0
abbrev ph_le (c d : Nat) : Prop := ¬ ph_kp c ∨ d = c
abbrev ph_l1 (c d e : Nat) : Prop := ph_kp c ∧ e ≠ c ∧ ¬ (d < 4 ∧ d = c)
abbrev ph_l2 (d e : Nat) : Prop := d < 4 ∧ e ≠ d
def ph_s0 : ph_S := (fun _ => 0, fun _ => 0, fun _ => 0)
def ph_s1 : ph_S := ph_bb ph_s0 0
def ph_s2 (c : Nat) : ph_S := ph_mv ph_s1 c
def ph_s3 (c : Nat) : ph_S := ph_as (ph_s2 c) 4 0 0
def ph_s4 (c d : Nat) : ph_S := ph_bb (ph_s3 c) d
def ph_s5 (c d e : Nat) : ph_S := ph_nu (ph_s4 c d) e
theorem ph_f0 : ph_okb ph_s0 0 := by decide +kernel
theorem ph_i0 : ph_bi ph_s0 0 = 0 := by decide +kernel
theorem ph_f1 : ∀ c, c < 5 → ph_ok ph_s1 (4 + c) (ph_s1.1 4) (ph_s1.2.1 4) := by decide +kernel
theorem ph_f2 : ∀ c, c < 5 → ph_ok (ph_s2 c) 4 0 0 := by decide +kernel
theorem ph_c3 : ∀ c, c < 5 → ph_cnt (ph_s3 c).2.2 = ph_n (ph_kp c) := by decide +kernel
def ph_okB (s : ph_S) (d : Nat) : Bool := decide (ph_okb s d)
def ph_oK (s : ph_S) (p : Nat) (k v : Int32) : Bool := decide (ph_ok s p k v)
theorem ph_g3 : ∀ c, c < 5 → ∀ d, d < 4 → ph_okB (ph_s3 c) d = true := by decide +kernel
theorem ph_f3 (c : Nat) (hc : c < 5) (d : Nat) (hd : d < 4) : ph_okb (ph_s3 c) d := of_decide_eq_true (ph_g3 c hc d hd)
theorem ph_i3 : ∀ c, c < 5 → ∀ d, d < 5 → ph_bi (ph_s3 c) d = if d < 4 then (if ph_le c d then 0 else 1) else -1 := by decide +kernel
theorem ph_c4 : ∀ c, c < 5 → ∀ d, d < 5 → ph_cnt (ph_s4 c d).2.2 = if d < 4 then (if ph_le c d then 1 else 2) else ph_n (ph_kp c) := by decide +kernel
theorem ph_g4 : ∀ c, c < 5 → ∀ d, d < 5 → ∀ e, e < 5 → ph_oK (ph_s4 c d) (4 + e) 1 7 = true := by decide +kernel
theorem ph_f4 (c : Nat) (hc : c < 5) (d : Nat) (hd : d < 5) (e : Nat) (he : e < 5) : ph_ok (ph_s4 c d) (4 + e) 1 7 := of_decide_eq_true (ph_g4 c hc d hd e he)
theorem ph_c5 : ∀ c, c < 5 → ∀ d, d < 5 → ∀ e, e < 5 → ph_cnt (ph_s5 c d e).2.2 = ph_n (ph_l1 c d e) + ph_n (ph_l2 d e) := by decide +kernel
end
section
/-! the law, from its end -/
section
variable {post : Int32 → St0 → Prop} {mc ms kc ks : Nat} {l : Int32} {a3 a4 a5 a6 a7 a8 a9 a10 a12 : Nat → Int32} {s : ph_S} {x0 x1 x2 : Int32} {c d e : Nat}
theorem ph_268 {z0 z1 : Int32} (H : ph_cnt s.2.2 = z1 + z0) (hp : post 1 ()) : wL_lawOf_268 post mc ms z0 z1 kc ks l s.1 s.2.1 a3 a4 a5 a6 a7 a8 a9 a10 s.2.2 a12 := by
  unfold wL_lawOf_268
  exact nm_e (ph_blobs (br_t H hp))
theorem ph_253 {z0 : Int32} (r1 : ph_R x1 d) (r2 : ph_R x2 e) (H : ph_cnt s.2.2 = z0 + ph_n (ph_l2 d e)) (hp : post 1 ()) : wL_lawOf_253 post mc ms x1 x2 (ph_n (d < 4)) z0 kc ks l s.1 s.2.1 a3 a4 a5 a6 a7 a8 a9 a10 s.2.2 a12 := by
  have J0 : ¬ ph_l2 d e → wL_lawOf_267 post mc ms z0 kc ks l s.1 s.2.1 a3 a4 a5 a6 a7 a8 a9 a10 s.2.2 a12 := fun h => ph_268 (by rw [H, ph_n0 h]) hp
  unfold wL_lawOf_253
  exact ph_br (fun h => J0 (fun q => h q.1)) (fun h => ek_if (ph_same r2 r1 h) (fun g => J0 (fun q => q.2 g)) (fun g => ph_268 (by rw [H, ph_n1 (p := ph_l2 d e) ⟨h, g⟩]) hp))
theorem ph_223 {z0 z1 : Int32} (r0 : ph_R x0 c) (r1 : ph_R x1 d) (r2 : ph_R x2 e) (hz : z1 = z0) (H : ph_cnt s.2.2 = ph_n (ph_l1 c d e) + ph_n (ph_l2 d e)) (hp : post 1 ()) : wL_lawOf_223 post mc ms x0 x1 x2 (ph_n (d < 4)) (ph_n (ph_kp c)) z0 z1 kc ks l s.1 s.2.1 a3 a4 a5 a6 a7 a8 a9 a10 s.2.2 a12 := by
  have J0 : ¬ ph_l1 c d e → wL_lawOf_252 post mc ms x1 x2 (ph_n (d < 4)) kc ks l s.1 s.2.1 a3 a4 a5 a6 a7 a8 a9 a10 s.2.2 a12 := fun h => ph_253 r1 r2 (by rw [H, ph_n0 h]) hp
  have J1 : ph_l1 c d e → wL_lawOf_248 post mc ms x1 x2 (ph_n (d < 4)) kc ks l s.1 s.2.1 a3 a4 a5 a6 a7 a8 a9 a10 s.2.2 a12 := fun h => ph_253 r1 r2 (by rw [H, ph_n1 h]) hp
  unfold wL_lawOf_223
  refine br_t hz (ph_br (fun h => J0 (fun q => h q.1)) (fun h => ek_if (ph_same r2 r0 h.1) (fun g => J0 (fun q => q.2.1 g)) (fun g => ?_)))
  exact ph_br (fun k => J1 ⟨h, g, fun q => k q.1⟩) (fun k => ek_if (ph_same r1 r0 h.1) (fun m => J0 (fun q => q.2.2 ⟨k, m⟩)) (fun m => J1 ⟨h, g, fun q => m q.2⟩))
theorem ph_196 {z0 z1 : Int32} (r0 : ph_R x0 c) (r1 : ph_R x1 d) (r2 : ph_R x2 e) (hz : z1 = z0) (ho : e < 4 → ph_ok s (4 + e) 1 7) (H : ph_cnt (ph_nu s e).2.2 = ph_n (ph_l1 c d e) + ph_n (ph_l2 d e)) (hp : post 1 ()) : wL_lawOf_196 post mc ms x0 x1 x2 (ph_n (d < 4)) (ph_n (ph_kp c)) z0 z1 kc ks l s.1 s.2.1 a3 a4 a5 a6 a7 a8 a9 a10 s.2.2 a12 := by
  unfold wL_lawOf_196
  refine br_t hz (ph_number r2 ho ?_)
  exact ph_bad r2 (fun h => ph_223 r0 r1 r2 (if_neg h) H hp) (fun h => ph_223 r0 r1 r2 (if_pos h) H hp)
theorem ph_159 {z0 z1 : Int32} (r0 : ph_R x0 c) (r1 : ph_R x1 d) (r2 : ph_R x2 e) (hz : z1 = z0) (ho : e < 4 → ph_ok s (4 + e) 1 7) (H4 : ph_cnt s.2.2 = if d < 4 then (if ph_le c d then 1 else 2) else ph_n (ph_kp c)) (H : ph_cnt (ph_nu s e).2.2 = ph_n (ph_l1 c d e) + ph_n (ph_l2 d e)) (hp : post 1 ()) : wL_lawOf_159 post mc ms x0 x1 x2 (ph_n (d < 4)) (ph_n (ph_kp c)) (ph_n (ph_le c d)) z0 z1 kc ks l s.1 s.2.1 a3 a4 a5 a6 a7 a8 a9 a10 s.2.2 a12 := by
  unfold wL_lawOf_159
  refine br_t hz (ph_blobs ?_)
  refine ph_br (fun h => ?_) (fun h => ?_)
  · rw [if_neg h] at H4
    exact ph_br (fun k => ph_196 r0 r1 r2 (by rw [H4, ph_n0 k]) ho H hp) (fun k => ph_196 r0 r1 r2 (by rw [H4, ph_n1 k]) ho H hp)
  · rw [if_pos h] at H4
    exact ph_br (fun k => ph_196 r0 r1 r2 (by rw [H4, if_neg k]) ho H hp) (fun k => ph_196 r0 r1 r2 (by rw [H4, if_pos k]) ho H hp)
theorem ph_132 {z0 : Int32} (r0 : ph_R x0 c) (r1 : ph_R x1 d) (r2 : ph_R x2 e) (hz : z0 = ph_n (ph_le c d)) (hp : post 1 ()) : wL_lawOf_132 post mc ms x0 x1 x2 (ph_n (d < 4)) (ph_n (ph_kp c)) z0 kc ks l (ph_s3 c).1 (ph_s3 c).2.1 a3 a4 a5 a6 a7 a8 a9 a10 (ph_s3 c).2.2 a12 := by
  have hc := ph_R5 r0
  have hd := ph_R5 r1
  have he := ph_R5 r2
  have I := ph_i3 c hc d hd
  subst hz
  unfold wL_lawOf_132
  refine ph_blob r1 (fun h => ph_f3 c hc d h) ?_
  refine ph_br (fun h => ?_) (fun h => ph_br (fun k => ?_) (fun k => ?_))
  · exact ph_159 r0 r1 r2 (by rw [I, if_neg h]) (fun _ => ph_f4 c hc d hd e he) (ph_c4 c hc d hd) (ph_c5 c hc d hd e he) hp
  · exact ph_159 r0 r1 r2 (by rw [I, if_pos h, if_neg k]) (fun _ => ph_f4 c hc d hd e he) (ph_c4 c hc d hd) (ph_c5 c hc d hd e he) hp
  · exact ph_159 r0 r1 r2 (by rw [I, if_pos h, if_pos k]) (fun _ => ph_f4 c hc d hd e he) (ph_c4 c hc d hd) (ph_c5 c hc d hd e he) hp
theorem ph_112 {z0 z1 : Int32} (r0 : ph_R x0 c) (r1 : ph_R x1 d) (r2 : ph_R x2 e) (hz : z1 = z0) (hp : post 1 ()) : wL_lawOf_112 post mc ms x0 x1 x2 (ph_n (d < 4)) (ph_n (ph_kp c)) z0 z1 kc ks l (ph_s3 c).1 (ph_s3 c).2.1 a3 a4 a5 a6 a7 a8 a9 a10 (ph_s3 c).2.2 a12 := by
  have J : ph_le c d → wL_lawOf_127 post mc ms x0 x1 x2 (ph_n (d < 4)) (ph_n (ph_kp c)) kc ks l (ph_s3 c).1 (ph_s3 c).2.1 a3 a4 a5 a6 a7 a8 a9 a10 (ph_s3 c).2.2 a12 := fun h => ph_132 r0 r1 r2 (ph_n1 h).symm hp
  unfold wL_lawOf_112
  exact br_t hz (ph_br (fun h => J (Or.inl h)) (fun h => ek_if (ph_same r1 r0 h.1) (fun g => J (Or.inr g)) (fun g => ph_132 r0 r1 r2 (ph_n0 (p := ph_le c d) (fun q => q.elim (fun w => w h) g)).symm hp)))
theorem ph_96 {z0 : Int32} (r0 : ph_R x0 c) (r1 : ph_R x1 d) (r2 : ph_R x2 e) (hz : z0 = ph_n (ph_kp c)) (hp : post 1 ()) : wL_lawOf_96 post mc ms x0 x1 x2 (ph_n (d < 4)) z0 kc ks l (ph_s3 c).1 (ph_s3 c).2.1 a3 a4 a5 a6 a7 a8 a9 a10 (ph_s3 c).2.2 a12 := by
  have C := ph_c3 c (ph_R5 r0)
  subst hz
  unfold wL_lawOf_96
  refine ph_blobs ?_
  exact ph_br (fun h => ph_112 r0 r1 r2 (by rw [C, ph_n0 h]) hp) (fun h => ph_112 r0 r1 r2 (by rw [C, ph_n1 h]) hp)
theorem ph_66 {z0 z1 : Int32} (r0 : ph_R x0 c) (r1 : ph_R x1 d) (r2 : ph_R x2 e) (hz : z1 = z0) (hp : post 1 ()) : wL_lawOf_66 post mc ms x0 x1 x2 (ph_n (c < 4)) (ph_n (d < 4)) z0 z1 kc ks l (ph_s2 c).1 (ph_s2 c).2.1 a3 a4 a5 a6 a7 a8 a9 a10 (ph_s2 c).2.2 a12 := by
  have J : ¬ ph_kp c → wL_lawOf_95 post mc ms x0 x1 x2 (ph_n (d < 4)) kc ks l (ph_s3 c).1 (ph_s3 c).2.1 a3 a4 a5 a6 a7 a8 a9 a10 (ph_s3 c).2.2 a12 := fun h => ph_96 r0 r1 r2 (ph_n0 h).symm hp
  have z : ph_R 0 0 := Or.inl ⟨by decide, rfl⟩
  unfold wL_lawOf_66
  refine br_t hz (ph_nil (ph_f2 c (ph_R5 r0)) ?_)
  refine br_t rfl ?_
  exact ph_br (fun h => J (fun q => h q.1)) (fun h => ek_if (ph_same r0 z (by decide)) (fun g => J (fun q => q.2 g)) (fun g => ph_96 r0 r1 r2 (ph_n1 (p := ph_kp c) ⟨h, g⟩).symm hp))
theorem ph_38 {x4 x5 : Int32} (r0 : ph_R x0 c) (r1 : ph_R x1 d) (r2 : ph_R x2 e) (h4 : x4 = ph_n (c < 4)) (h5 : x5 = ph_n (d < 4)) (hp : post 1 ()) : wL_lawOf_38 post mc ms x0 x1 x2 x4 x5 kc ks l ph_s0.1 ph_s0.2.1 a3 a4 a5 a6 a7 a8 a9 a10 ph_s0.2.2 a12 := by
  have z : ph_R 0 0 := Or.inl ⟨by decide, rfl⟩
  subst h4 h5
  unfold wL_lawOf_38
  refine ph_blob z (fun _ => ph_f0) ?_
  refine br_t ph_i0 ?_
  refine ph_move (s := ph_s1) r0 (fun _ => ph_f1 c (ph_R5 r0)) ?_
  exact ph_br (fun h => ph_66 r0 r1 r2 (if_neg h) hp) (fun h => ph_66 r0 r1 r2 (if_pos h) hp)
theorem ph_22 {x4 : Int32} (r0 : ph_R x0 c) (r1 : ph_R x1 d) (r2 : ph_R x2 e) (h4 : x4 = ph_n (c < 4)) (hp : post 1 ()) : wL_lawOf_22 post mc ms x0 x1 x2 x4 kc ks l ph_s0.1 ph_s0.2.1 a3 a4 a5 a6 a7 a8 a9 a10 ph_s0.2.2 a12 := by
  have J : ¬ d < 4 → wL_lawOf_37 post mc ms x0 x1 x2 x4 kc ks l ph_s0.1 ph_s0.2.1 a3 a4 a5 a6 a7 a8 a9 a10 ph_s0.2.2 a12 := fun h => ph_38 r0 r1 r2 h4 (ph_n0 h).symm hp
  unfold wL_lawOf_22
  exact ph_bad r1 J (fun h => ph_38 r0 r1 r2 h4 (ph_n1 h).symm hp)
end
theorem ph_lawOf {post : Int32 → St0 → Prop} (x0 x1 x2 : Int32) (hp : post 1 ()) : wpL_lawOf post 13 690 () x0 x1 x2 := by
  obtain ⟨c, r0⟩ := ph_cls x0
  obtain ⟨d, r1⟩ := ph_cls x1
  obtain ⟨e, r2⟩ := ph_cls x2
  unfold wpL_lawOf
  refine ⟨by omega, by omega, 12, 677, by omega, by omega, ph_init (by omega) (by omega) (fun a => ?_)⟩
  exact ph_bad r0 (fun h => ph_22 r0 r1 r2 (ph_n0 h).symm hp) (fun h => ph_22 r0 r1 r2 (ph_n1 h).symm hp)
theorem ph_cell {post : Int32 → Prop} {L : Nat} {xs : Nat → Int32} (hL : L ≤ 3) (j : Nat) (hj : j < 3) (hp : ∀ x, post x) : wpL_cellAt post L xs () (nI j) :=
  pk_le L j (fun _ => hp _) (fun h => ⟨pk_in j L h, hp _⟩)
theorem i_vc (xs : Nat → Int32) (L : Nat) (hL : L ≤ 3) : wpL_law (fun r => r = 1) L xs := by
  unfold wpL_law
  refine ph_cell hL 0 (by decide) (fun x0 => ?_)
  refine ph_cell hL 1 (by decide) (fun x1 => ?_)
  refine ph_cell hL 2 (by decide) (fun x2 => ?_)
  exact ⟨13, 690, by omega, by omega, ph_lawOf x0 x1 x2 rfl⟩
end
