section
/-- the picture of the array held: the roots' row, and one filled place (layer l, path q) of sort s; s = 0: nothing filled -/
def ot_H (l q s : Nat) (a1 : Nat → Int32) : Prop := l ≤ 2 ∧ 1 ≤ q ∧ q ≤ 4 ∧ s ≤ 4 ∧ a1 340 = 2 ∧ ∀ y p, y < 5 → 1 ≤ p → p ≤ 84 → a1 (85 * y + p) = if y = l ∧ p = q then nI s else 0
/-- what is filled shows: it is no hole -/
def ot_t (s : Nat) : Nat := if 1 ≤ s ∧ s ≤ 3 then 1 else 0
/-- the sort at a path -/
def ot_r (q s p : Nat) : Nat := if p = 0 then 2 else if p = q ∧ 1 ≤ s ∧ s ≤ 3 then (if s = 1 then 1 else 2) else 0
theorem ot_ix (y p : Nat) : (85 : Int32) * nI y + nI p = nI (85 * y + p) := by
  rw [← nI_add, ← pk_mul]
  rfl
theorem ot_in {y p : Nat} (hy : y < 5) (hp : p ≤ 84) : vp_in ((85 : Int32) * nI y + nI p) 425 := pk_in (85 * y + p) 425 (by omega) (ot_ix y p)
theorem ot_cl {y p : Nat} (hy : y < 5) (hp : p ≤ 84) : ((85 : Int32) * nI y + nI p).toNatClampNeg = 85 * y + p := pk_cl (85 * y + p) (ot_ix y p) (by omega)
theorem ot_neg (f : Nat) (hf : f ≤ 5) : nI 0 + (-1) < nI f := by
  rw [show nI 0 + (-1) = (-1 : Int32) from by decide]
  apply Int32.lt_iff_toInt_lt.mpr
  rw [nI_toInt (by omega), show (-1 : Int32).toInt = -1 from by decide]
  omega
theorem ot_par {p : Nat} (h : 1 ≤ p) (h2 : p ≤ 84) : (nI p - 1) / 4 = nI ((p - 1) / 4) := by
  obtain ⟨j, rfl⟩ : ∃ j, p = j + 1 := ⟨p - 1, by omega⟩
  rw [nI_pred, Nat.add_sub_cancel]
  exact pk_div (d := 4) (by omega) (by omega) (by omega)
theorem ot_H0 {l q s p : Nat} {a1 : Nat → Int32} (h : ot_H l q s a1) (h1 : 1 ≤ p) (h2 : p ≤ 84) (hn : p ≠ q ∨ s = 0) : ∀ y, y < 5 → a1 (85 * y + p) = 0 := by
  intro y hy
  rw [h.2.2.2.2.2 y p hy h1 h2]
  by_cases e : y = l ∧ p = q
  · rw [if_pos e]
    rcases hn with hn | hn
    · exact absurd e.2 hn
    · rw [hn]; rfl
  · rw [if_neg e]
theorem ot_H1 {l q s : Nat} {a1 : Nat → Int32} (h : ot_H l q s a1) : a1 (85 * l + q) = nI s := by
  have hl := h.1
  have h1 := h.2.1
  have h2 := h.2.2.1
  rw [h.2.2.2.2.2 l q (by omega) h1 (by omega), if_pos ⟨rfl, rfl⟩]
theorem ot_H2 {l q s : Nat} {a1 : Nat → Int32} (h : ot_H l q s a1) : ∀ y, y < 5 → y ≠ l → a1 (85 * y + q) = 0 := by
  intro y hy hn
  have h1 := h.2.1
  have h2 := h.2.2.1
  rw [h.2.2.2.2.2 y q hy h1 (by omega), if_neg (fun e => hn e.1)]
/-! settle -/
theorem ot_s0 {post : St2 → Prop} {m : Int32} {a1 a2 a3 a4 a5 : Nat → Int32} {p f : Nat} (hp : p ≤ 84) (hf : f ≤ 5) (hz : ∀ y, y < 5 → a1 (85 * y + p) = 0) (H : post (m, -1, nI f, a1, a2, a3, a4, a5)) :
    ∀ k, k ≤ 5 → wX_settle_7 post (nI p) m (nI f) a1 a2 a3 a4 a5 (k + 1) (nI k + (-1)) (-1) := by
  have X : wX_settle_51 post (nI p) m (-1) (nI f) a1 a2 a3 a4 a5 := br_t (by decide) H
  intro k
  induction k with
  | zero => intro _; exact br_t (ot_neg f hf) X
  | succ k ih =>
    intro hk
    rw [pk_m1]
    refine pk_lt k f (fun _ => X) (fun _ => br_f (by decide) ⟨ot_in (by omega) hp, br_t ?_ (nm_e (ih (by omega)))⟩)
    rw [ot_cl (by omega) hp]
    exact hz k (by omega)
theorem ot_settle0 {post : St2 → Prop} {m fl : Int32} {a1 a2 a3 a4 a5 : Nat → Int32} {p f : Nat} (hp : p ≤ 84) (hf : f ≤ 5) (hz : ∀ y, y < 5 → a1 (85 * y + p) = 0) (H : post (m, -1, nI f, a1, a2, a3, a4, a5)) :
    wpX_settle post (m, fl, nI f, a1, a2, a3, a4, a5) (nI p) := by
  have h := ot_s0 hp hf hz H 5 (by omega)
  rw [show nI 5 + (-1) = (4 : Int32) from by decide] at h
  exact ⟨6, h⟩
theorem ot_s1 {post : St2 → Prop} {m : Int32} {a1 a2 a3 a4 a5 : Nat → Int32} {p l : Nat} (hp : p ≤ 84) (hl : l < 5) (hz : ∀ y, y < 5 → y ≠ l → a1 (85 * y + p) = 0) (hs : ¬ a1 (85 * l + p) = 0) (H : wX_settle_51 post (nI p) m (nI l) 0 a1 a2 a3 a4 a5) :
    ∀ k, l < k → k ≤ 5 → wX_settle_7 post (nI p) m 0 a1 a2 a3 a4 a5 (k + 1) (nI k + (-1)) (-1) := by
  intro k
  induction k with
  | zero => intro h; omega
  | succ k ih =>
    intro h1 h2
    rw [pk_m1]
    refine br_f (nI_pos (by omega)) (br_f (by decide) ⟨ot_in (by omega) hp, ?_⟩)
    rw [ot_cl (by omega) hp]
    by_cases e : k = l
    · subst e
      exact br_f hs (nm_e (br_c (fun _ => H) (fun _ => br_t (nI_pos' (by omega)) H)))
    · exact br_t (hz k (by omega) e) (nm_e (ih (by omega) (by omega)))
theorem ot_settle1 {post : St2 → Prop} {m fl : Int32} {a1 a2 a3 a4 a5 : Nat → Int32} {l q s : Nat} (h : ot_H l q s a1) (hs : 1 ≤ s) (H1 : s ≤ 3 → post (m, nI l, 0, a1, a2, a3, a4, a5)) (H0 : s = 4 → post (m, -1, 0, a1, a2, a3, a4, a5)) :
    wpX_settle post (m, fl, 0, a1, a2, a3, a4, a5) (nI q) := by
  have hl := h.1
  have hq := h.2.2.1
  have hs4 := h.2.2.2.1
  have X : wX_settle_51 post (nI q) m (nI l) 0 a1 a2 a3 a4 a5 := by
    refine br_f (nI_pos (by omega)) ⟨ot_in (by omega) (by omega), ?_⟩
    rw [ot_cl (by omega) (by omega), ot_H1 h]
    exact pk_eq s 4 (fun e => H0 e) (fun e => H1 (by omega))
  have g := ot_s1 (p := q) (l := l) (by omega) (by omega) (ot_H2 h) (by rw [ot_H1 h]; exact nI_ne0 hs (by omega)) X 5 (by omega) (by omega)
  rw [show nI 5 + (-1) = (4 : Int32) from by decide] at g
  exact ⟨6, g⟩
/-! raiseFloor: it ends, the floor stays in 0 .. 5 -/
theorem ot_rf {post : St2 → Prop} {m fl : Int32} {a1 a2 a3 a4 a5 : Nat → Int32} {p : Nat} (hp : p ≤ 84) (H : ∀ f, f ≤ 5 → post (m, fl, nI f, a1, a2, a3, a4, a5)) :
    ∀ k, k ≤ 5 → ∀ f, f ≤ 5 → wX_raiseFloor_2 post (nI p) m fl a1 a2 a3 a4 a5 (k + 1) (nI k + (-1)) (nI f) := by
  intro k
  induction k with
  | zero => intro _ f hf; exact br_t (ot_neg f hf) (H f hf)
  | succ k ih =>
    intro hk f hf
    rw [pk_m1]
    refine pk_lt k f (fun _ => H f hf) (fun _ => ⟨ot_in (by omega) hp, nm_e ?_⟩)
    exact br_c (fun _ => nm_e (ih (by omega) k (by omega))) (fun _ => br_c (fun _ => nm_r (nI_1 k) (nm_e (ih (by omega) (k + 1) (by omega)))) (fun _ => br_c (fun _ => nm_r (nI_1 k) (nm_e (ih (by omega) (k + 1) (by omega)))) (fun _ => nm_e (ih (by omega) f hf))))
theorem ot_raise {post : St2 → Prop} {m fl : Int32} {a1 a2 a3 a4 a5 : Nat → Int32} {p f : Nat} (hp : p ≤ 84) (hf : f ≤ 5) (H : ∀ f, f ≤ 5 → post (m, fl, nI f, a1, a2, a3, a4, a5)) :
    wpX_raiseFloor post (m, fl, nI f, a1, a2, a3, a4, a5) (nI p) := by
  have h := ot_rf (a1 := a1) hp H 5 (by omega) f hf
  rw [show nI 5 + (-1) = (4 : Int32) from by decide] at h
  exact ⟨6, h⟩
/-! look, the way down -/
theorem ot_lx {post : St2 → Prop} {n : Nat} {x3 m f : Int32} {a1 a2 a3 a4 a5 : Nat → Int32} (H : post (m, -1, f, a1, a2, a3, a4, a5)) : wX_look_46 post (n + 1) x3 m (-1) f a1 a2 a3 a4 a5 :=
  br_c (fun _ => H) (fun _ => br_t (by decide) H)
theorem ot_lz {post : St2 → Prop} {n k t f : Nat} {m fl : Int32} {a1 a2 a3 a4 a5 : Nat → Int32} (hk : k < 4) (hfl : ¬ fl < 0) (hf : f ≤ 5) (ha : a3 k = nI t) (ht : t ≤ 84) (hz : ∀ y, y < 5 → a1 (85 * y + t) = 0) (H : post (m, -1, nI f, a1, a2, a3, a4, a5)) :
    wX_look_46 post (n + 2) (nI k) m fl (nI f) a1 a2 a3 a4 a5 := by
  refine br_f (nI_pos (by omega)) (br_f hfl ⟨pk_in k 4 hk, ?_⟩)
  rw [nI_clamp (show k < 2 ^ 31 by omega), ha]
  exact ot_settle0 ht hf hz (br_t (by decide) (nm_e (ot_lx H)))
theorem ot_46 {post : St2 → Prop} {l q s k t : Nat} {m : Int32} {a1 a2 a3 a4 a5 : Nat → Int32} (h : ot_H l q s a1) (hk : k < 4) (ha : a3 k = nI t) (ht : 1 ≤ t) (ht4 : t ≤ 4) (ha' : 0 < k → ∃ t', 5 ≤ t' ∧ t' ≤ 84 ∧ a3 (k - 1) = nI t')
    (H1 : k = 0 → t = q → 1 ≤ s → s ≤ 3 → ∀ f, post (m, nI l, f, a1, a2, a3, a4, a5)) (H0 : ¬ (k = 0 ∧ t = q ∧ 1 ≤ s ∧ s ≤ 3) → ∀ f, post (m, -1, f, a1, a2, a3, a4, a5)) :
    wX_look_46 post 3 (nI k) m 4 0 a1 a2 a3 a4 a5 := by
  have hl := h.1
  have hs4 := h.2.2.2.1
  have hq := h.2.2.1
  by_cases e : t ≠ q ∨ s = 0
  · exact ot_lz (f := 0) hk (by decide) (by omega) ha (by omega) (ot_H0 h ht (by omega) e) (H0 (by omega) _)
  · have e1 : t = q := by omega
    have e2 : 1 ≤ s := by omega
    subst e1
    refine br_f (nI_pos (by omega)) (br_f (by decide) ⟨pk_in k 4 hk, ?_⟩)
    rw [nI_clamp (show k < 2 ^ 31 by omega), ha]
    refine ot_settle1 h e2 (fun e3 => ?_) (fun e3 => br_t (by decide) (nm_e (ot_lx (H0 (by omega) _))))
    refine br_f (nI_pos (by omega)) (pk_le k 0 (fun e4 => ?_) (fun e4 => ?_))
    · have e5 : k = 0 := by omega
      subst e5
      exact nm_e (br_t (by decide) (H1 rfl rfl e2 e3 _))
    · refine ⟨pk_in k 4 hk, ?_⟩
      have R : ∀ z, (∀ f, f ≤ 5 → wX_look_46 post 2 (nI k + (-1)) m z (nI f) a1 a2 a3 a4 a5) → wX_look_110 post (wX_look_46 post 2) (nI k) z m (nI l) 0 a1 a2 a3 a4 a5 := by
        intro z hz
        refine ⟨pk_in k 4 hk, ?_⟩
        rw [nI_clamp (show k < 2 ^ 31 by omega), ha]
        exact ot_raise (f := 0) (by omega) (by omega) (fun f hf => nm_e (hz f hf))
      rw [ha]
      refine ⟨ot_in (by omega) (by omega), br_c (fun _ => R _ (fun f hf => ot_lx (H0 (by omega) _))) (fun _ => R _ (fun f hf => ?_))⟩
      obtain ⟨t', g1, g2, g3⟩ := ha' e4
      rw [sb_m1 e4]
      exact ot_lz (n := 0) (by omega) (nI_pos (by omega)) hf g3 g2 (ot_H0 h (by omega) g2 (by omega)) (H0 (by omega) _)
/-! look, the way up -/
theorem ot_l4s {post : St2 → Prop} {n d p : Nat} {m fl f : Int32} {a1 a2 a3 a4 a5 : Nat → Int32} (hd : d < 4) (hp : 1 ≤ p) (hp2 : p ≤ 84) (H : wX_look_4 post m fl f n (nI (d + 1)) (nI ((p - 1) / 4)) a1 a2 (upd a3 d (nI p)) a4 a5) :
    wX_look_4 post m fl f (n + 1) (nI d) (nI p) a1 a2 a3 a4 a5 :=
  br_f (nI_nle hp (by omega)) (br_f (nI_ge (b := 4) hd (by decide)) ⟨pk_in d 4 hd, nm_r (e' := upd a3 d (nI p)) (by rw [nI_clamp (by omega)]) (nm_r (nI_1 d) ⟨by decide, nm_r (ot_par hp hp2) H⟩)⟩)
theorem ot_l4x {post : St2 → Prop} {n d : Nat} {m fl f : Int32} {a1 a2 a3 a4 a5 : Nat → Int32} (H : ∃ n, wX_look_46 post n (nI d) m 4 0 a1 a2 a3 a4 a5) : wX_look_4 post m fl f (n + 1) (nI (d + 1)) (nI 0) a1 a2 a3 a4 a5 :=
  br_t (by decide) (nm_r (nI_pred d) H)
theorem ot_look {post : St2 → Prop} {l q s p : Nat} {m fl f : Int32} {a1 a2 a3 a4 a5 : Nat → Int32} (h : ot_H l q s a1) (hp : 1 ≤ p) (hp2 : p ≤ 84)
    (H1 : p = q → 1 ≤ s → s ≤ 3 → ∀ f a3, post (m, nI l, f, a1, a2, a3, a4, a5)) (H0 : ¬ (p = q ∧ 1 ≤ s ∧ s ≤ 3) → ∀ f a3, post (m, -1, f, a1, a2, a3, a4, a5)) :
    wpX_look post (m, fl, f, a1, a2, a3, a4, a5) (nI p) := by
  have hq := h.2.2.1
  by_cases c1 : p ≤ 4
  · refine ⟨2, ot_l4s (d := 0) (by omega) hp hp2 ?_⟩
    rw [show (p - 1) / 4 = 0 by omega]
    exact ot_l4x ⟨3, ot_46 (k := 0) (t := p) h (by omega) pk_us hp c1 (fun z => absurd z (by omega)) (fun _ e2 e3 e4 f => H1 e2 e3 e4 f _) (fun e f => H0 (by omega) f _)⟩
  · by_cases c2 : p ≤ 20
    · refine ⟨3, ot_l4s (d := 0) (by omega) hp hp2 (ot_l4s (d := 1) (by omega) (by omega) (by omega) ?_)⟩
      rw [show ((p - 1) / 4 - 1) / 4 = 0 by omega]
      exact ot_l4x ⟨3, ot_46 (k := 1) (t := (p - 1) / 4) h (by omega) pk_us (by omega) (by omega) (fun _ => ⟨p, by omega, hp2, by rw [pk_un (by omega)]; exact pk_us⟩) (fun e1 => absurd e1 (by omega)) (fun e f => H0 (by omega) f _)⟩
    · refine ⟨4, ot_l4s (d := 0) (by omega) hp hp2 (ot_l4s (d := 1) (by omega) (by omega) (by omega) (ot_l4s (d := 2) (by omega) (by omega) (by omega) ?_))⟩
      rw [show (((p - 1) / 4 - 1) / 4 - 1) / 4 = 0 by omega]
      exact ot_l4x ⟨3, ot_46 (k := 2) (t := ((p - 1) / 4 - 1) / 4) h (by omega) pk_us (by omega) (by omega) (fun _ => ⟨(p - 1) / 4, by omega, by omega, by rw [pk_un (by omega)]; exact pk_us⟩) (fun e1 => absurd e1 (by omega)) (fun e f => H0 (by omega) f _)⟩
end
section
theorem ot_t1 {s : Nat} (h1 : 1 ≤ s) (h2 : s ≤ 3) : ot_t s = 1 := if_pos ⟨h1, h2⟩
theorem ot_t0 {s : Nat} (h : ¬ (1 ≤ s ∧ s ≤ 3)) : ot_t s = 0 := if_neg h
theorem ot_r0 (q s : Nat) : ot_r q s 0 = 2 := if_pos rfl
theorem ot_rF {q s p : Nat} (hp : 1 ≤ p) (e : p = q) (h : s = 1) : ot_r q s p = 1 := by
  unfold ot_r
  rw [if_neg (by omega), if_pos (by omega), if_pos h]
theorem ot_rD {q s p : Nat} (hp : 1 ≤ p) (e : p = q) (h1 : 2 ≤ s) (h2 : s ≤ 3) : ot_r q s p = 2 := by
  unfold ot_r
  rw [if_neg (by omega), if_pos (by omega), if_neg (by omega)]
theorem ot_rN {q s p : Nat} (hp : 1 ≤ p) (e : ¬ (p = q ∧ 1 ≤ s ∧ s ≤ 3)) : ot_r q s p = 0 := by
  unfold ot_r
  rw [if_neg (by omega), if_neg e]
theorem ot_r2 (q s p : Nat) : ot_r q s p ≤ 2 := by
  unfold ot_r
  split
  · omega
  · split
    · split <;> omega
    · omega
/-! sort -/
theorem ot_sort {post : Int32 → St2 → Prop} {l q s p : Nat} {fl f : Int32} {a1 a2 a3 a4 a5 : Nat → Int32} (h : ot_H l q s a1) (hp : p ≤ 84)
    (H : ∀ fl f a3, (p = q → 1 ≤ s → s ≤ 3 → fl = nI l) → post (nI (ot_r q s p)) (1, fl, f, a1, a2, a3, a4, a5)) :
    wpX_sort post (1, fl, f, a1, a2, a3, a4, a5) (nI p) := by
  have hl := h.1
  have hq := h.2.1
  have hq4 := h.2.2.1
  refine br_f (nI_pos (by omega)) (br_t (nI_le (b := 84) hp (by decide)) (br_f (by decide) ?_))
  by_cases c : p = 0
  · subst c
    refine ⟨1, br_t (by decide) (nm_e ⟨1, br_t (by decide) (br_t (by decide) ⟨ot_in (y := 4) (p := 0) (by omega) (by omega), br_f ?_ ?_⟩)⟩)⟩
    · rw [show ((85 : Int32) * 4 + nI 0).toNatClampNeg = 340 from ot_cl (y := 4) (p := 0) (by omega) (by omega), h.2.2.2.2.1]
      decide
    · have g := H 4 0 a3 (fun e => absurd e (by omega))
      rw [ot_r0] at g
      exact g
  · refine ot_look h (by omega) hp (fun e1 e2 e3 f a3 => ?_) (fun e f a3 => br_f (by decide) ?_)
    · subst e1
      refine br_t (nI_pos' (by omega)) ⟨ot_in (by omega) hp, ?_⟩
      rw [ot_cl (by omega) hp, ot_H1 h]
      refine pk_eq s 1 (fun e4 => ?_) (fun e4 => ?_)
      · have g := H (nI l) f a3 (fun _ _ _ => rfl)
        rw [ot_rF hq rfl e4] at g
        exact g
      · have g := H (nI l) f a3 (fun _ _ _ => rfl)
        rw [ot_rD hq rfl (by omega) e3] at g
        exact g
    · have g := H (-1) f a3 (fun e1 e2 e3 => absurd ⟨e1, e2, e3⟩ e)
      rw [ot_rN (by omega) e] at g
      exact g
/-- a path out of range -/
theorem ot_sortO {post : Int32 → St2 → Prop} {x m fl f : Int32} {a1 a2 a3 a4 a5 : Nat → Int32} (hx : x < 0 ∨ ¬ x ≤ 84) (H : post (-1) (m, fl, f, a1, a2, a3, a4, a5)) : wpX_sort post (m, fl, f, a1, a2, a3, a4, a5) x :=
  br_c (fun _ => H) (fun g => br_f (fun e => hx.elim g (fun g2 => g2 e)) H)
/-- before the mount -/
theorem ot_sortU {post : Int32 → St2 → Prop} {p : Nat} {fl f : Int32} {a1 a2 a3 a4 a5 : Nat → Int32} (hp : p ≤ 84) (H : post 0 (0, fl, f, a1, a2, a3, a4, a5)) : wpX_sort post (0, fl, f, a1, a2, a3, a4, a5) (nI p) :=
  br_f (nI_pos (by omega)) (br_t (nI_le (b := 84) hp (by decide)) (br_t rfl H))
/-! total, mount -/
theorem ot_total {post : Int32 → St2 → Prop} {l q s : Nat} {fl f : Int32} {a1 a2 a3 a4 a5 : Nat → Int32} (h : ot_H l q s a1) (H : ∀ fl f a3, post (nI (ot_t s)) (1, fl, f, a1, a2, a3, a4, a5)) :
    wpX_total post (1, fl, f, a1, a2, a3, a4, a5) := by
  have hq := h.2.1
  have hq4 := h.2.2.1
  refine pk_loop (σ := Int32 × Int32 × Int32 × (Nat → Int32)) (fun n i z => wX_total_4 post n z.1 (nI i) 1 z.2.1 z.2.2.1 a1 a2 z.2.2.2 a4 a5) (fun i z => 1 ≤ i ∧ z.1 = nI (if q < i then ot_t s else 0)) 85 1 (0, fl, f, a3) (by omega) ⟨by omega, by rw [if_neg (by omega)]; rfl⟩ ?_ ?_
  · intro n z hz
    have g := H z.2.1 z.2.2.1 z.2.2.2
    have e := hz.2
    rw [if_pos (by omega)] at e
    rw [← e] at g
    exact br_t (by decide) g
  · intro n i z hi hz hw
    refine br_f (nI_ge (b := 85) hi (by decide)) (ot_sort h (by omega) (fun fl f a3 _ => ?_))
    obtain ⟨h1, h2⟩ := hz
    refine pk_le (ot_r q s i) 0 (fun e => nm_e (nm_r (nI_1 i) (hw (_, fl, f, a3) ⟨by omega, ?_⟩))) (fun e => nm_e (nm_r (nI_1 i) (hw (_, fl, f, a3) ⟨by omega, ?_⟩))) rfl rfl (Nat.lt_of_le_of_lt (ot_r2 q s i) (by omega)) (by omega)
    · show z.1 + 0 = _
      rw [h2, show (0 : Int32) = nI 0 from rfl, nI_add, Nat.add_zero]
      by_cases c : i = q
      · subst c
        rw [if_neg (by omega), if_pos (by omega)]
        by_cases c2 : 1 ≤ s ∧ s ≤ 3
        · exfalso
          by_cases c3 : s = 1
          · rw [ot_rF h1 rfl c3] at e; omega
          · rw [ot_rD h1 rfl (by omega) c2.2] at e; omega
        · rw [ot_t0 c2]
      · by_cases c2 : q < i
        · rw [if_pos c2, if_pos (by omega)]
        · rw [if_neg c2, if_neg (by omega)]
    · show z.1 + 1 = _
      rw [h2, nI_1]
      by_cases c : i = q ∧ 1 ≤ s ∧ s ≤ 3
      · rw [if_neg (by omega), if_pos (by omega), ot_t1 c.2.1 c.2.2]
      · rw [ot_rN h1 c] at e
        omega
theorem ot_mount {post : Int32 → St2 → Prop} {l q s : Nat} {fl f : Int32} {a1 a2 a3 a4 a5 : Nat → Int32} (h : ot_H l q s a1) (H : ∀ fl f a3, post (nI (ot_t s)) (1, fl, f, a1, a2, a3, a4, a5)) :
    wpX_mount post (0, fl, f, a1, a2, a3, a4, a5) :=
  br_t rfl (ot_total h (fun fl f a3 => H fl f a3))
/-! value -/
theorem ot_valF {post : Int32 → St2 → Prop} {l q s : Nat} {fl f : Int32} {a1 a2 a3 a4 a5 : Nat → Int32} (h : ot_H l q s a1) (hs : s = 1) (H : ∀ fl f a3, post (a2 (85 * l + q)) (1, fl, f, a1, a2, a3, a4, a5)) :
    wpX_value post (1, fl, f, a1, a2, a3, a4, a5) (nI q) := by
  have hl := h.1
  have hq := h.2.1
  have hq4 := h.2.2.1
  unfold wpX_value
  refine ot_sort h (by omega) (fun fl f a3 g => ?_)
  rw [ot_rF hq rfl hs]
  have g2 := g rfl (by omega) (by omega)
  subst g2
  refine br_t rfl ⟨ot_in (by omega) (by omega), ?_⟩
  rw [ot_cl (by omega) (by omega)]
  exact H _ f a3
theorem ot_valN {post : Int32 → St2 → Prop} {l q s p : Nat} {fl f : Int32} {a1 a2 a3 a4 a5 : Nat → Int32} (h : ot_H l q s a1) (hp : p ≤ 84) (hn : ¬ (p = q ∧ s = 1)) (H : ∀ fl f a3, post 0 (1, fl, f, a1, a2, a3, a4, a5)) :
    wpX_value post (1, fl, f, a1, a2, a3, a4, a5) (nI p) := by
  unfold wpX_value
  refine ot_sort h hp (fun fl f a3 g => br_f ?_ (H fl f a3))
  by_cases c : p = 0
  · rw [c, ot_r0]; decide
  · by_cases c2 : p = q ∧ 1 ≤ s ∧ s ≤ 3
    · rw [ot_rD (by omega) c2.1 (by omega) c2.2.2]; decide
    · rw [ot_rN (by omega) c2]; decide
theorem ot_valO {post : Int32 → St2 → Prop} {x m fl f : Int32} {a1 a2 a3 a4 a5 : Nat → Int32} (hx : x < 0 ∨ ¬ x ≤ 84) (H : post 0 (m, fl, f, a1, a2, a3, a4, a5)) : wpX_value post (m, fl, f, a1, a2, a3, a4, a5) x := by
  unfold wpX_value
  exact ot_sortO hx (br_f (by decide) H)
/-! entries -/
theorem ot_ent2 {post : Int32 → St2 → Prop} {l q s p : Nat} {fl f : Int32} {a1 a2 a3 a4 a5 : Nat → Int32} (h : ot_H l q s a1) (hp : p ≤ 4) (hr : ot_r q s p = 2) (H : ∀ fl f a3, post (nI (if p = 0 then ot_t s else 0)) (1, fl, f, a1, a2, a3, a4, a5)) :
    wpX_entries post (1, fl, f, a1, a2, a3, a4, a5) (nI p) := by
  have hq := h.2.1
  have hq4 := h.2.2.1
  have E1 : (4 : Int32) * nI p + 1 = nI (4 * p + 1) := by
    rw [← nI_add, ← pk_mul]; rfl
  have E4 : (4 : Int32) * nI p + 4 = nI (4 * p + 4) := by
    rw [← nI_add, ← pk_mul]; rfl
  unfold wpX_entries
  refine ot_sort h (by omega) (fun fl f a3 g => ?_)
  rw [hr]
  refine br_t rfl (nm_r E1 ?_)
  refine pk_loop (σ := Int32 × Int32 × Int32 × (Nat → Int32)) (fun n i z => wX_entries_19 post (nI p) n z.1 (nI i) 1 z.2.1 z.2.2.1 a1 a2 z.2.2.2 a4 a5) (fun i z => 4 * p + 1 ≤ i ∧ z.1 = nI (if 4 * p + 1 ≤ q ∧ q < i then ot_t s else 0)) (4 * p + 5) (4 * p + 1) (0, fl, f, a3) (by omega) ⟨by omega, by rw [if_neg (by omega)]; rfl⟩ ?_ ?_
  · intro n z hz
    have g := H z.2.1 z.2.2.1 z.2.2.2
    have e := hz.2
    rw [show (if 4 * p + 1 ≤ q ∧ q < 4 * p + 5 then ot_t s else 0) = (if p = 0 then ot_t s else 0) from by
      by_cases c : p = 0
      · rw [if_pos c, if_pos (by omega)]
      · rw [if_neg c, if_neg (by omega)]] at e
    rw [← e] at g
    exact br_t (by rw [E4]; exact nI_lt (by omega) (by omega)) g
  · intro n i z hi hz hw
    obtain ⟨h1, h2⟩ := hz
    refine br_f (by rw [E4]; exact nI_nlt (by omega) (by omega)) (br_f (nI_ge (b := 85) (by omega) (by decide)) (ot_sort h (by omega) (fun fl f a3 _ => ?_)))
    refine pk_le (ot_r q s i) 0 (fun e => nm_e (nm_r (nI_1 i) (hw (_, fl, f, a3) ⟨by omega, ?_⟩))) (fun e => nm_e (nm_r (nI_1 i) (hw (_, fl, f, a3) ⟨by omega, ?_⟩))) rfl rfl (Nat.lt_of_le_of_lt (ot_r2 q s i) (by omega)) (by omega)
    · show z.1 + 0 = _
      rw [h2, show (0 : Int32) = nI 0 from rfl, nI_add, Nat.add_zero]
      by_cases c : i = q
      · subst c
        rw [if_neg (by omega), if_pos (by omega)]
        by_cases c2 : 1 ≤ s ∧ s ≤ 3
        · exfalso
          by_cases c3 : s = 1
          · rw [ot_rF (by omega) rfl c3] at e; omega
          · rw [ot_rD (by omega) rfl (by omega) c2.2] at e; omega
        · rw [ot_t0 c2]
      · by_cases c2 : 4 * p + 1 ≤ q ∧ q < i
        · rw [if_pos c2, if_pos (by omega)]
        · rw [if_neg c2, if_neg (by omega)]
    · show z.1 + 1 = _
      rw [h2, nI_1]
      by_cases c : i = q ∧ 1 ≤ s ∧ s ≤ 3
      · rw [if_neg (by omega), if_pos (by omega), ot_t1 c.2.1 c.2.2]
      · rw [ot_rN (by omega) c] at e
        omega
theorem ot_entN {post : Int32 → St2 → Prop} {l q s p : Nat} {fl f : Int32} {a1 a2 a3 a4 a5 : Nat → Int32} (h : ot_H l q s a1) (hp : p ≤ 84) (hr : ot_r q s p ≠ 2) (H : ∀ fl f a3, post (-1) (1, fl, f, a1, a2, a3, a4, a5)) :
    wpX_entries post (1, fl, f, a1, a2, a3, a4, a5) (nI p) := by
  unfold wpX_entries
  exact ot_sort h hp (fun fl f a3 _ => pk_eq (ot_r q s p) 2 (fun e => absurd e hr) (fun _ => H fl f a3) rfl rfl (Nat.lt_of_le_of_lt (ot_r2 q s p) (by omega)) (by omega))
theorem ot_entO {post : Int32 → St2 → Prop} {x m fl f : Int32} {a1 a2 a3 a4 a5 : Nat → Int32} (hx : x < 0 ∨ ¬ x ≤ 84) (H : post (-1) (m, fl, f, a1, a2, a3, a4, a5)) : wpX_entries post (m, fl, f, a1, a2, a3, a4, a5) x := by
  unfold wpX_entries
  exact ot_sortO hx (br_f (by decide) H)
/-! the constructor, fill -/
def ot_B (a1 : Nat → Int32) : Prop := ∀ y p, y < 5 → p ≤ 84 → a1 (85 * y + p) = if p = 0 then 2 else 0
theorem ot_init {post : St2 → Prop} {mc ms : Nat} (h1 : 5 ≤ mc) (h2 : 1024 ≤ ms) (H : ∀ a1, ot_B a1 → post (0, 0, 0, a1, (fun _ => 0), (fun _ => 0), (fun _ => 0), (fun _ => 0))) : wpX_init post mc ms (0, 0, 0) := by
  refine ⟨by omega, by omega, by omega, by omega, by omega, by omega, by omega, by omega, by omega, by omega, ?_⟩
  refine pk_loop (fun n i z => wX_init_47 post mc ms 5 1024 0 0 0 n (nI i) z (fun _ => 0) (fun _ => 0) (fun _ => 0) (fun _ => 0)) (fun i z => ∀ y p, y < 5 → p ≤ 84 → z (85 * y + p) = if p = 0 ∧ y < i then 2 else 0) 5 0 (fun _ => 0) (by omega) (fun y p _ _ => by rw [if_neg (by omega)]) ?_ ?_
  · intro n z hz
    refine br_t (by decide) (H z (fun y p hy hp => ?_))
    rw [hz y p hy hp]
    by_cases c : p = 0
    · rw [if_pos c, if_pos ⟨c, hy⟩]
    · rw [if_neg c, if_neg (by omega)]
  · intro n i z hi hz hw
    have E : (85 : Int32) * nI i = nI (85 * i) := pk_mul 85 i
    refine br_f (nI_ge (b := 5) hi (by decide)) ⟨pk_in (85 * i) 425 (by omega) E, nm_e (nm_r (nI_1 i) (hw _ (fun y p hy hp => ?_)))⟩
    rw [E, nI_clamp (by omega)]
    by_cases c : p = 0 ∧ y = i
    · rw [show 85 * y + p = 85 * i by omega, pk_us, if_pos (by omega)]
    · rw [pk_un (by omega), hz y p hy hp]
      by_cases c2 : p = 0 ∧ y < i
      · rw [if_pos c2, if_pos (by omega)]
      · rw [if_neg c2, if_neg (by omega)]
theorem ot_B0 {a1 : Nat → Int32} (h : ot_B a1) : ot_H 0 1 0 a1 := by
  refine ⟨by omega, by omega, by omega, by omega, h 4 0 (by omega) (by omega), fun y p hy h1 h2 => ?_⟩
  rw [h y p hy h2, if_neg (by omega)]
  by_cases c : y = 0 ∧ p = 1
  · rw [if_pos c]; rfl
  · rw [if_neg c]
theorem ot_B1 {a1 : Nat → Int32} {l q s : Nat} (h : ot_B a1) (hl : l ≤ 2) (hq : 1 ≤ q) (hq4 : q ≤ 4) (hs : s ≤ 4) : ot_H l q s (upd a1 (85 * l + q) (nI s)) := by
  refine ⟨hl, hq, hq4, hs, ?_, fun y p hy h1 h2 => ?_⟩
  · rw [pk_un (by omega)]
    exact h 4 0 (by omega) (by omega)
  · by_cases c : y = l ∧ p = q
    · rw [c.1, c.2, pk_us, if_pos ⟨rfl, rfl⟩]
    · rw [pk_un (by omega), if_neg c, h y p hy h2, if_neg (by omega)]
theorem ot_rng {x : Int32} {a b : Nat} (hb : b < 2 ^ 31) (ha : a < 2 ^ 31) (h1 : ¬ x < nI a) (h2 : ¬ nI b < x) : ∃ j, a ≤ j ∧ j ≤ b ∧ x = nI j := by
  have h0 : ¬ x < 0 := by
    intro e
    apply h1
    have e1 := Int32.lt_iff_toInt_lt.mp e
    apply Int32.lt_iff_toInt_lt.mpr
    rw [nI_toInt ha]
    have e2 : (0 : Int32).toInt = 0 := by decide
    omega
  obtain ⟨j, hj, rfl⟩ := nI_of h0
  rw [nI_ltI hj ha] at h1
  rw [nI_ltI hb hj] at h2
  exact ⟨j, by omega, by omega, rfl⟩
theorem ot_fillY {post : Int32 → St2 → Prop} {l q s : Nat} {v fl f : Int32} {a1 a2 a3 a4 a5 : Nat → Int32} (h : ot_B a1) (hl : l ≤ 2) (hq : 1 ≤ q) (hq4 : q ≤ 4) (hs : 1 ≤ s) (hs4 : s ≤ 4)
    (H : ∀ a2', (s = 1 → a2' (85 * l + q) = v) → post 0 (0, fl, f, upd a1 (85 * l + q) (nI s), a2', a3, a4, a5)) :
    wpX_fill post (0, fl, f, a1, a2, a3, a4, a5) (nI l) (nI q) (nI s) v := by
  refine br_t rfl (br_f (nI_pos (by omega)) (br_f (nI_nlt (b := l) (a := 2) hl (by decide)) (br_f (nI_nlt (b := 1) (a := q) hq (by omega)) (br_f (nI_nlt (b := q) (a := 84) (by omega) (by decide)) (br_f (nI_nlt (b := 1) (a := s) hs (by omega)) (br_t (nI_le (b := 4) hs4 (by decide)) ⟨by decide, ?_⟩))))))
  rw [ot_par hq (by omega), show (q - 1) / 4 = 0 by omega]
  refine ⟨ot_in (by omega) (by omega), nm_r (e' := 2) (by rw [ot_cl (by omega) (by omega), h l 0 (by omega) (by omega)]; rfl) ⟨ot_in (by omega) (by omega), br_t ?_ (br_t rfl ⟨ot_in (by omega) (by omega), nm_r (e' := upd a1 (85 * l + q) (nI s)) (by rw [ot_cl (by omega) (by omega)]) (pk_eq s 1 (fun e => ⟨ot_in (by omega) (by omega), nm_r (e' := upd a2 (85 * l + q) v) (by rw [ot_cl (by omega) (by omega)]) (H _ (fun _ => pk_us))⟩) (fun e => ⟨ot_in (by omega) (by omega), nm_e (H _ (fun e2 => absurd e2 e))⟩))⟩)⟩⟩
  rw [ot_cl (by omega) (by omega), h l q (by omega) (by omega), if_neg (by omega)]
theorem ot_fillN {post : Int32 → St2 → Prop} {x0 x1 x2 v fl f : Int32} {a1 a2 a3 a4 a5 : Nat → Int32} (h : ot_B a1) (hn : x0 < 0 ∨ 2 < x0 ∨ x1 < 1 ∨ 4 < x1 ∨ x2 < 1 ∨ 4 < x2) (H : post (-1) (0, fl, f, a1, a2, a3, a4, a5)) :
    wpX_fill post (0, fl, f, a1, a2, a3, a4, a5) x0 x1 x2 v := by
  refine br_t rfl (br_c (fun _ => H) (fun g1 => br_c (fun _ => H) (fun g2 => br_c (fun _ => H) (fun g3 => br_c (fun _ => H) (fun g4 => br_c (fun _ => H) (fun g5 => br_c (fun g6 => ?_) (fun _ => H)))))))
  obtain ⟨l, _, hl, rfl⟩ := ot_rng (a := 0) (b := 2) (by omega) (by omega) g1 g2
  obtain ⟨p, hp1, hp2, rfl⟩ := ot_rng (a := 1) (b := 84) (by omega) (by omega) g3 g4
  have hp5 : 5 ≤ p := by
    rcases hn with z | z | z | z | z | z
    · exact absurd z g1
    · exact absurd z g2
    · exact absurd z g3
    · have z' : nI 4 < nI p := z
      rw [nI_ltI (by omega) (by omega)] at z'
      omega
    · exact absurd z g5
    · exact absurd g6 (Int32.not_le.mpr z)
  refine ⟨by decide, ?_⟩
  rw [ot_par hp1 hp2]
  refine ⟨ot_in (by omega) (by omega), nm_r (e' := 0) (by rw [ot_cl (by omega) (by omega), h l _ (by omega) (by omega), if_neg (by omega)]) ⟨ot_in (by omega) (by omega), br_t ?_ (br_f (by decide) (br_f (by decide) H))⟩⟩
  rw [ot_cl (by omega) (by omega), h l p (by omega) (by omega), if_neg (by omega)]
end
section
theorem ot_233O {post : Int32 → St0 → Prop} {mc ms kc ks : Nat} {x4 x7 fl f : Int32} {a1 a2 a3 a4 a5 : Nat → Int32} (hx : x4 < 0 ∨ ¬ x4 ≤ 84) (H : post 1 ()) : wL_lawOf_233 post mc ms x4 x7 (-1) kc ks 1 fl f a1 a2 a3 a4 a5 :=
  ot_sortO hx (br_t rfl (ot_entO hx (br_f (by decide) (br_t rfl H))))
theorem ot_233 {post : Int32 → St0 → Prop} {mc ms kc ks l q s p : Nat} {x7 z0 fl f : Int32} {a1 a2 a3 a4 a5 : Nat → Int32} (h : ot_H l q s a1) (hp : p ≤ 84) (h7 : x7 = nI (ot_t s)) (hr : z0 = nI (ot_r q s p)) (H : post 1 ()) :
    wL_lawOf_233 post mc ms (nI p) x7 z0 kc ks 1 fl f a1 a2 a3 a4 a5 := by
  have hq4 := h.2.2.1
  subst h7 hr
  refine ot_sort h hp (fun fl f a3 _ => br_t rfl ?_)
  by_cases e : ot_r q s p = 2
  · have hp4 : p ≤ 4 := by
      rcases Nat.lt_or_ge 4 p with z | z
      · rw [ot_rN (by omega) (by omega)] at e
        omega
      · exact z
    refine ot_ent2 h hp4 e (fun fl f a3 => ?_)
    rw [e]
    refine br_t rfl (pk_eq p 0 (fun e0 => ?_) (fun e0 => ?_))
    · rw [if_pos e0]
      by_cases c : 1 ≤ s ∧ s ≤ 3
      · rw [ot_t1 c.1 c.2]
        exact br_f (by decide) (br_t rfl H)
      · rw [ot_t0 c]
        exact br_t rfl (br_t rfl H)
    · rw [if_neg e0]
      exact br_t rfl H
  · have hr := ot_r2 q s p
    exact ot_entN h hp e (fun fl f a3 => pk_eq (ot_r q s p) 2 (fun g => absurd g e) (fun _ => br_t rfl H))
theorem ot_173O {post : Int32 → St0 → Prop} {mc ms kc ks : Nat} {x2 x4 x7 x8 z0 z1 fl f : Int32} {a1 a2 a3 a4 a5 : Nat → Int32} (hx : x4 < 0 ∨ ¬ x4 ≤ 84) (hz : z1 = z0) (H : post 1 ()) : wL_lawOf_173 post mc ms x2 x4 x7 x8 z0 z1 kc ks 1 fl f a1 a2 a3 a4 a5 :=
  br_t hz (br_c (fun _ => ot_233O hx H) (fun g => br_f (fun e => hx.elim g (fun g2 => g2 e)) (ot_233O hx H)))
theorem ot_173 {post : Int32 → St0 → Prop} {mc ms kc ks l q s p : Nat} {x2 x7 x8 z0 z1 fl f : Int32} {a1 a2 a3 a4 a5 : Nat → Int32} (h : ot_H l q s a1) (hp : p ≤ 84) (hz : z1 = z0) (h7 : x7 = nI (ot_t s)) (hc : 1 ≤ s → s ≤ 3 → x2 = nI s ∧ x8 = nI (if p = q then 1 else 0)) (H : post 1 ()) :
    wL_lawOf_173 post mc ms x2 (nI p) x7 x8 z0 z1 kc ks 1 fl f a1 a2 a3 a4 a5 := by
  have hs4 := h.2.2.2.1
  refine br_t hz (br_f (nI_pos (by omega)) (br_t (nI_le (b := 84) hp (by decide)) (pk_eq p 0 (fun e => ot_233 h hp h7 (by rw [e, ot_r0]; rfl) H) (fun e => ?_))))
  by_cases c : 1 ≤ s ∧ s ≤ 3
  · obtain ⟨e2, e8⟩ := hc c.1 c.2
    have e7 : ¬ x7 = 0 := by
      rw [h7, ot_t1 c.1 c.2]
      decide
    subst e2
    refine br_f e7 ?_
    by_cases cq : p = q
    · have e8' : ¬ x8 = 0 := by
        rw [e8, if_pos cq]
        decide
      exact pk_le s 1 (fun g => br_f e7 (br_f e8' (ot_233 h hp h7 (by rw [ot_rF (by omega) cq (by omega)]; rfl) H))) (fun g => br_f e8' (ot_233 h hp h7 (by rw [ot_rD (by omega) cq (by omega) c.2]; rfl) H))
    · have e8' : x8 = 0 := by
        rw [e8, if_neg cq]
        rfl
      have R : wL_lawOf_233 post mc ms (nI p) x7 0 kc ks 1 fl f a1 a2 a3 a4 a5 := ot_233 h hp h7 (by rw [ot_rN (by omega) (fun z => cq z.1)]; rfl) H
      exact pk_le s 1 (fun g => br_f e7 (br_t e8' R)) (fun g => br_t e8' (br_f e7 (br_t e8' R)))
  · have e7 : x7 = 0 := by
      rw [h7, ot_t0 c]
      rfl
    have R : wL_lawOf_233 post mc ms (nI p) x7 0 kc ks 1 fl f a1 a2 a3 a4 a5 := ot_233 h hp h7 (by rw [ot_rN (by omega) (fun z => c z.2)]; rfl) H
    exact br_t e7 (br_t e7 R)
theorem ot_144O {post : Int32 → St0 → Prop} {mc ms kc ks : Nat} {x2 x3 x4 x7 z0 fl f : Int32} {a1 a2 a3 a4 a5 : Nat → Int32} (hx : x4 < 0 ∨ ¬ x4 ≤ 84) (hc : ¬ x7 = 0 → z0 = 0) (H : post 1 ()) : wL_lawOf_144 post mc ms x2 x3 x4 x7 z0 kc ks 1 fl f a1 a2 a3 a4 a5 :=
  ot_valO hx (br_c (fun _ => ot_173O hx rfl H) (fun g => br_c (fun _ => br_t (hc g) (ot_173O hx rfl H)) (fun _ => ot_173O hx rfl H)))
theorem ot_144 {post : Int32 → St0 → Prop} {mc ms kc ks l q s p : Nat} {x2 x3 x7 x8 fl f : Int32} {a1 a2 a3 a4 a5 : Nat → Int32} (h : ot_H l q s a1) (hp : p ≤ 84) (h7 : x7 = nI (ot_t s)) (hc : 1 ≤ s → s ≤ 3 → x2 = nI s ∧ x8 = nI (if p = q then 1 else 0) ∧ (s = 1 → a2 (85 * l + q) = x3)) (H : post 1 ()) :
    wL_lawOf_144 post mc ms x2 x3 (nI p) x7 x8 kc ks 1 fl f a1 a2 a3 a4 a5 := by
  have hs4 := h.2.2.2.1
  have R : ∀ z0 z1 fl f a3, z1 = z0 → wL_lawOf_173 post mc ms x2 (nI p) x7 x8 z0 z1 kc ks 1 fl f a1 a2 a3 a4 a5 := fun z0 z1 fl f a3 hz => ot_173 h hp hz h7 (fun a b => ⟨(hc a b).1, (hc a b).2.1⟩) H
  by_cases c : 1 ≤ s ∧ s ≤ 3
  · obtain ⟨e2, e8, e3⟩ := hc c.1 c.2
    have e7 : ¬ x7 = 0 := by
      rw [h7, ot_t1 c.1 c.2]
      decide
    by_cases c1 : p = q ∧ s = 1
    · have e2' : x2 = 1 := by
        rw [e2, c1.2]
        rfl
      have e8' : ¬ x8 = 0 := by
        rw [e8, if_pos c1.1]
        decide
      rw [c1.1] at R ⊢
      exact ot_valF h c1.2 (fun fl f a3 => br_f e7 (br_t e2' (br_f e8' (R _ _ _ _ _ (e3 c1.2)))))
    · refine ot_valN h hp c1 (fun fl f a3 => br_f e7 (br_c (fun g => br_t ?_ (R _ _ _ _ _ rfl)) (fun _ => R _ _ _ _ _ rfl)))
      rw [e2] at g
      have g' : s = 1 := (nI_eq (b := 1) (by omega) (by omega)).mp g
      rw [e8, if_neg (by omega)]
      rfl
  · have e7 : x7 = 0 := by
      rw [h7, ot_t0 c]
      rfl
    exact ot_valN h hp (by omega) (fun fl f a3 => br_t e7 (R _ _ _ _ _ rfl))
theorem ot_out {x : Int32} (h : nI 85 ≤ x) : ¬ x ≤ 84 := by
  intro e
  exact absurd (Int32.le_trans h e) (by decide)
theorem ot_128 {post : Int32 → St0 → Prop} {mc ms kc ks l q s : Nat} {x1 x2 x3 x4 x7 z0 z1 fl f : Int32} {a1 a2 a3 a4 a5 : Nat → Int32} (h : ot_H l q s a1) (h7 : x7 = nI (ot_t s)) (hz : z1 = z0) (hc : 1 ≤ s → s ≤ 3 → x1 = nI q ∧ x2 = nI s ∧ (s = 1 → a2 (85 * l + q) = x3)) (H : post 1 ()) :
    wL_lawOf_128 post mc ms x1 x2 x3 x4 x7 z0 z1 kc ks 1 fl f a1 a2 a3 a4 a5 := by
  have hq4 := h.2.2.1
  refine br_t hz ?_
  have O : x4 < 0 ∨ ¬ x4 ≤ 84 → (x4 = x1 → wL_lawOf_144 post mc ms x2 x3 x4 x7 1 kc ks 1 fl f a1 a2 a3 a4 a5) ∧ (¬ x4 = x1 → wL_lawOf_144 post mc ms x2 x3 x4 x7 0 kc ks 1 fl f a1 a2 a3 a4 a5) := by
    intro hx
    refine br_c (fun e => ot_144O hx (fun g => ?_) H) (fun e => ot_144O hx (fun _ => rfl) H)
    exfalso
    by_cases c : 1 ≤ s ∧ s ≤ 3
    · rw [e, (hc c.1 c.2).1] at hx
      rcases hx with hx | hx
      · exact nI_pos (by omega) hx
      · exact hx (nI_le (b := 84) (by omega) (by decide))
    · apply g
      rw [h7, ot_t0 c]
      rfl
  rcases pk_ix x4 (n := 85) (by omega) with g | g | ⟨p, hp, rfl⟩
  · exact O (Or.inl g)
  · exact O (Or.inr (ot_out g))
  · refine br_c (fun e => ot_144 h (by omega) h7 (fun a b => ⟨(hc a b).2.1, ?_, (hc a b).2.2⟩) H) (fun e => ot_144 h (by omega) h7 (fun a b => ⟨(hc a b).2.1, ?_, (hc a b).2.2⟩) H)
    · rw [(hc a b).1] at e
      rw [if_pos ((nI_eq (by omega) (by omega)).mp e)]
      rfl
    · rw [(hc a b).1] at e
      rw [if_neg (fun z => e (by rw [z]))]
      rfl
theorem ot_111 {post : Int32 → St0 → Prop} {mc ms kc ks l q s : Nat} {x1 x2 x3 x4 z0 fl f : Int32} {a1 a2 a3 a4 a5 : Nat → Int32} (h : ot_H l q s a1) (h7 : z0 = nI (ot_t s)) (hc : 1 ≤ s → s ≤ 3 → x1 = nI q ∧ x2 = nI s ∧ (s = 1 → a2 (85 * l + q) = x3)) (H : post 1 ()) :
    wL_lawOf_111 post mc ms x1 x2 x3 x4 z0 kc ks 0 fl f a1 a2 a3 a4 a5 := by
  refine ot_mount h (fun fl f a3 => ?_)
  by_cases c : 1 ≤ s ∧ s ≤ 3
  · exact br_f (by rw [h7, ot_t1 c.1 c.2]; decide) (ot_128 h h7 (by rw [ot_t1 c.1 c.2]; rfl) hc H)
  · exact br_t (by rw [h7, ot_t0 c]; rfl) (ot_128 h h7 (by rw [ot_t0 c]; rfl) hc H)
theorem ot_91 {post : Int32 → St0 → Prop} {mc ms kc ks l q s : Nat} {x1 x2 x3 x4 x6 z0 z1 fl f : Int32} {a1 a2 a3 a4 a5 : Nat → Int32} (h : ot_H l q s a1) (hz : z1 = z0) (h6 : (x6 = 0 ∧ s = 0) ∨ (x6 = 1 ∧ 1 ≤ s ∧ x1 = nI q ∧ x2 = nI s ∧ (s = 1 → a2 (85 * l + q) = x3))) (H : post 1 ()) :
    wL_lawOf_91 post mc ms x1 x2 x3 x4 x6 z0 z1 kc ks 0 fl f a1 a2 a3 a4 a5 := by
  have hs4 := h.2.2.2.1
  refine br_t hz ?_
  rcases h6 with ⟨e, es⟩ | ⟨e, es, e1, e2, e3⟩
  · exact br_t e (ot_111 h (by rw [ot_t0 (by omega)]; rfl) (fun a b => absurd a (by omega)) H)
  · subst e2
    exact br_f (by rw [e]; decide) (pk_lt 3 s (fun g => ot_111 h (by rw [ot_t0 (by omega)]; rfl) (fun a b => absurd b (by omega)) H) (fun g => ot_111 h (by rw [ot_t1 es g]; rfl) (fun a b => ⟨e1, rfl, e3⟩) H))
theorem ot_64 {post : Int32 → St0 → Prop} {mc ms kc ks l q s : Nat} {x1 x2 x3 x4 x6 z0 z1 fl f : Int32} {a1 a2 a3 a4 a5 : Nat → Int32} (h : ot_H l q s a1) (hz : z1 = z0) (h6 : (x6 = 0 ∧ s = 0) ∨ (x6 = 1 ∧ 1 ≤ s ∧ x1 = nI q ∧ x2 = nI s ∧ (s = 1 → a2 (85 * l + q) = x3))) (H : post 1 ()) :
    wL_lawOf_64 post mc ms x1 x2 x3 x4 x6 z0 z1 kc ks 0 fl f a1 a2 a3 a4 a5 := by
  refine br_t hz ?_
  rcases pk_ix x4 (n := 85) (by omega) with g | g | ⟨p, hp, rfl⟩
  · exact ot_sortO (Or.inl g) (br_t g (ot_91 h rfl h6 H))
  · exact ot_sortO (Or.inr (ot_out g)) (br_c (fun _ => ot_91 h rfl h6 H) (fun _ => br_f (ot_out g) (ot_91 h rfl h6 H)))
  · exact ot_sortU (by omega) (br_f (nI_pos (by omega)) (br_t (nI_le (b := 84) (by omega) (by decide)) (ot_91 h rfl h6 H)))
theorem ot_lawOf {post : Int32 → St0 → Prop} (x0 x1 x2 x3 x4 : Int32) (H : post 1 ()) : wpL_lawOf post 6 1032 () x0 x1 x2 x3 x4 := by
  refine ⟨by omega, by omega, 5, 1024, by omega, by omega, ot_init (by omega) (by omega) (fun a1 hB => ?_)⟩
  have N : (x0 < 0 ∨ 2 < x0 ∨ x1 < 1 ∨ 4 < x1 ∨ x2 < 1 ∨ 4 < x2) → wL_lawOf_43 post 6 1032 x0 x1 x2 x3 x4 0 (1 + 5) (8 + 1024) 0 0 0 a1 (fun _ => 0) (fun _ => 0) (fun _ => 0) (fun _ => 0) :=
    fun hn => ot_fillN hB hn (br_t rfl (ot_64 (ot_B0 hB) rfl (Or.inl ⟨rfl, rfl⟩) H))
  refine br_c (fun g => N (Or.inl g)) (fun g1 => br_c (fun g => N (Or.inr (Or.inl g))) (fun g2 => br_c (fun g => N (Or.inr (Or.inr (Or.inl g)))) (fun g3 => br_c (fun g => N (Or.inr (Or.inr (Or.inr (Or.inl g))))) (fun g4 => br_c (fun g => N (Or.inr (Or.inr (Or.inr (Or.inr (Or.inl g)))))) (fun g5 => br_c (fun g => N (Or.inr (Or.inr (Or.inr (Or.inr (Or.inr g)))))) (fun g6 => ?_))))))
  obtain ⟨l, _, hl, rfl⟩ := ot_rng (a := 0) (b := 2) (by omega) (by omega) g1 g2
  obtain ⟨q, hq, hq4, rfl⟩ := ot_rng (a := 1) (b := 4) (by omega) (by omega) g3 g4
  obtain ⟨s, hs, hs4, rfl⟩ := ot_rng (a := 1) (b := 4) (by omega) (by omega) g5 g6
  exact ot_fillY hB hl hq hq4 hs hs4 (fun a2' ha => br_f (by decide) (ot_64 (ot_B1 hB hl hq hq4 hs4) rfl (Or.inr ⟨rfl, hs, rfl, rfl, ha⟩) H))
theorem ot_cell {post : Int32 → Prop} {L : Nat} {xs : Nat → Int32} (hL : L ≤ 5) (k : Nat) (hk : k < 5) (H : ∀ r, post r) : wpL_cellAt post L xs () (nI k) :=
  pk_le L k (fun _ => H _) (fun z => ⟨pk_in k L z rfl (by omega), H _⟩)
end
section
theorem i_vc (xs : Nat → Int32) (L : Nat) (hL : L ≤ 5) : wpL_law (fun r => r = 1) L xs :=
  ot_cell hL 0 (by omega) (fun r1 => ot_cell hL 1 (by omega) (fun r2 => ot_cell hL 2 (by omega) (fun r3 => ot_cell hL 3 (by omega) (fun r4 => ot_cell hL 4 (by omega) (fun r5 => ⟨6, 1032, by omega, by omega, ot_lawOf r1 r2 r3 r4 r5 rfl⟩)))))
end
