section
/-- the disk's root cell names a bank: 0 or 1 -/
def sc_root (disk : Nat → Int32) : Prop := ∃ c : Nat, c ≤ 1 ∧ disk 0 = nI c
/-- one picture for both states: at most 16 cells, a root cell that is 0 or 1 -/
def sc_ok (u : SX) : Prop := ∃ (m : Nat) (dn : Int32) (disk mem : Nat → Int32), m ≤ 16 ∧ sc_root disk ∧ u = (nI m, dn, disk, mem)
/-- the two states are the same tuple, and it is such a picture -/
def i_Rel (_ : Nat) (u : SX) (v : SY) : Prop := u = v ∧ sc_ok u
theorem sc_mk {m : Nat} {dn : Int32} {disk mem : Nat → Int32} (hm : m ≤ 16) (hr : sc_root disk) : sc_ok (nI m, dn, disk, mem) := ⟨m, dn, disk, mem, hm, hr, rfl⟩
theorem sc_rel {k m : Nat} {dn : Int32} {disk mem : Nat → Int32} (hm : m ≤ 16) (hr : sc_root disk) : i_Rel k (nI m, dn, disk, mem) (nI m, dn, disk, mem) := ⟨rfl, sc_mk hm hr⟩
theorem sc_z (k m : Nat) (hm : m ≤ 16) : i_Rel k (nI m, 0, (fun _ => 0), (fun _ => 0)) (nI m, 0, (fun _ => 0), (fun _ => 0)) := sc_rel hm ⟨0, by omega, nI_0.symm⟩
theorem sc_one : (1 : Int32) = nI 1 := by decide +kernel
theorem sc_16 : (16 : Int32) = nI 16 := by decide +kernel
theorem sc_mul (a b : Nat) : nI a * nI b = nI (a * b) := (Int32.ofNat_mul a b).symm
/-- where a bank begins -/
theorem sc_base (b m : Nat) : 1 + nI b * nI m = nI (1 + b * m) := by
  rw [sc_mul, sc_one, nI_add]
theorem sc_bm {b m : Nat} (hb : b ≤ 1) (hm : m ≤ 16) : b * m ≤ m := by
  calc b * m ≤ 1 * m := Nat.mul_le_mul_right m hb
    _ = m := Nat.one_mul m
/-- the other bank -/
theorem sc_flip {c : Nat} (hc : c ≤ 1) : (1 : Int32) - nI c = nI (1 - c) := by
  have h : c = 0 ∨ c = 1 := by omega
  rcases h with rfl | rfl
  · decide +kernel
  · decide +kernel
/-- a store behind cell 0 keeps the root -/
theorem sc_keep {disk : Nat → Int32} {t : Nat} {x : Int32} (ht : t ≠ 0) (hr : sc_root disk) : sc_root (upd disk t x) := by
  obtain ⟨c, hc, e⟩ := hr
  refine ⟨c, hc, ?_⟩
  show (if 0 = t then x else disk 0) = nI c
  rw [if_neg (fun z => ht z.symm)]
  exact e
/-- a flip's store makes a root -/
theorem sc_set {disk : Nat → Int32} {b : Nat} (hb : b ≤ 1) : sc_root (upd disk 0 (nI b)) := ⟨b, hb, rfl⟩
end
section
/-- both recover loops end in one memory -/
theorem sc_rec {m B : Nat} {x1 dn : Int32} {disk : Nat → Int32} (hm : m ≤ 16) (hB : B + m ≤ 33) (e : 1 + x1 * nI m = nI B) :
    ∀ (d i : Nat) (mem : Nat → Int32), i + d = m → ∃ mem' : Nat → Int32,
      (∀ post : Int32 → SX → Prop, post x1 (nI m, dn, disk, mem') → wX_recover_23 post x1 (nI B) (nI m) dn (d + 1) (nI i) disk mem) ∧
      (∀ post : Int32 → SY → Prop, post x1 (nI m, dn, disk, mem') → wY_recover_14 post x1 (nI m) dn (d + 1) (nI i) disk mem) := by
  intro d
  induction d with
  | zero =>
    intro i mem hi
    have h : nI m ≤ nI i := nI_le (by omega) (by omega)
    exact ⟨mem, fun _ hp => br_t h hp, fun _ hp => br_t h hp⟩
  | succ d ih =>
    intro i mem hi
    have h : ¬ nI m ≤ nI i := nI_ge (by omega) (by omega)
    have h1 : vp_in (nI i) 16 := vp_in_nI (by omega) (by omega)
    have h2 : vp_in (nI B + nI i) 33 := by
      rw [nI_add]
      exact vp_in_nI (by omega) (by omega)
    have h3 : vp_in (1 + x1 * nI m + nI i) 33 := by
      rw [e]
      exact h2
    obtain ⟨mem', hX, hY⟩ := ih (i + 1) (upd mem (nI i).toNatClampNeg (disk (nI B + nI i).toNatClampNeg)) (by omega)
    refine ⟨mem', fun post hp => br_f h ⟨h2, h1, fun a ea y ey => ?_⟩, fun post hp => br_f h ⟨h3, h1, fun a ea y ey => ?_⟩⟩
    · rw [ea, ey, nI_1 i]
      exact hX post hp
    · rw [ea, ey, nI_1 i, e]
      exact hY post hp
/-- both sync loops, with what is behind them, give one answer and end in one state. z: fails; L: the limit -/
theorem sc_syn {m b B L : Nat} {p z : Int32} {mem : Nat → Int32} (hm : m ≤ 16) (hb : b ≤ 1) (hB1 : 1 ≤ B) (hB : B + m ≤ 33) (e : 1 + nI b * nI m = nI B)
    (H : (z = 1 ∧ L ≤ m ∧ p = nI L) ∨ (z = 0 ∧ L = m + 1 ∧ ∀ j : Nat, j ≤ m → ¬ p = nI j)) :
    ∀ (d i : Nat) (disk : Nat → Int32), i + d = m → i ≤ L → sc_root disk → ∃ (r : Int32) (u : SX), sc_ok u ∧
      (∀ post : Int32 → SX → Prop, post r u → wX_sync_68 post z (nI L) (nI b) (nI B) (nI m) 0 (d + 1) (nI i) (nI i) disk mem) ∧
      (∀ post : Int32 → SY → Prop, post r u → wY_sync_21 post p (nI b) (nI m) 0 (d + 1) (nI i) disk mem) := by
  intro d
  induction d with
  | zero =>
    intro i disk hi hL hr
    have him : i = m := by omega
    subst him
    have h : nI i ≤ nI i := nI_le (Nat.le_refl i) (by omega)
    rcases H with ⟨rfl, hl, ep⟩ | ⟨rfl, rfl, ep⟩
    · have hli : L = i := by omega
      subst hli
      exact ⟨-2, (nI L, 1, disk, mem), sc_mk hm hr,
        fun post hp => br_t h (br_t h (br_f (by decide) hp)),
        fun post hp => br_t h (br_t ep hp)⟩
    · have hl : ¬ nI (i + 1) ≤ nI i := nI_ge (by omega) (by omega)
      have hn : ¬ p = nI i := ep i (Nat.le_refl i)
      refine ⟨0, (nI i, 0, upd disk 0 (nI b), mem), sc_mk hm (sc_set hb),
        fun post hp => br_t h (br_f hl fun a ea y ey => br_t rfl ?_),
        fun post hp => br_t h (br_f hn fun a ea => ?_)⟩
      · rw [ea]
        exact hp
      · rw [ea]
        exact hp
  | succ d ih =>
    intro i disk hi hL hr
    have h : ¬ nI m ≤ nI i := nI_ge (by omega) (by omega)
    by_cases hiL : i = L
    · subst hiL
      rcases H with ⟨rfl, hl, ep⟩ | ⟨rfl, hl, ep⟩
      · have h2 : nI i ≤ nI i := nI_le (Nat.le_refl i) (by omega)
        exact ⟨-2, (nI m, 1, disk, mem), sc_mk hm hr,
          fun post hp => br_f h (br_t h2 (br_t h2 (br_f (by decide) hp))),
          fun post hp => br_f h (br_t ep hp)⟩
      · omega
    · have hlt : i < L := by omega
      have hLm : L ≤ m + 1 := by
        rcases H with ⟨_, hl, _⟩ | ⟨_, hl, _⟩
        · omega
        · omega
      have h2 : ¬ nI L ≤ nI i := nI_ge hlt (by omega)
      have hn : ¬ p = nI i := by
        rcases H with ⟨_, hl, ep⟩ | ⟨_, hl, ep⟩
        · rw [ep, nI_eq (by omega) (by omega)]
          omega
        · exact ep i (by omega)
      have h3 : vp_in (nI i) 16 := vp_in_nI (by omega) (by omega)
      have h4 : vp_in (nI B + nI i) 33 := by
        rw [nI_add]
        exact vp_in_nI (by omega) (by omega)
      have h5 : vp_in (1 + nI b * nI m + nI i) 33 := by
        rw [e]
        exact h4
      have ht : (nI B + nI i).toNatClampNeg ≠ 0 := by
        rw [nI_add, nI_clamp (by omega)]
        omega
      obtain ⟨r, u, ho, hX, hY⟩ := ih (i + 1) (upd disk (nI B + nI i).toNatClampNeg (mem (nI i).toNatClampNeg)) (by omega) (by omega) (sc_keep ht hr)
      refine ⟨r, u, ho,
        fun post hp => br_f h (br_f h2 ⟨h3, h4, fun a ea y ey w ew => ?_⟩),
        fun post hp => br_f h (br_f hn ⟨h3, h5, fun a ea y ey => ?_⟩)⟩
      · rw [ea, ey, ew, nI_1 i]
        exact hX post hp
      · rw [ea, ey, nI_1 i, e]
        exact hY post hp
end
section
theorem sc_x41 {m b B L n : Nat} {z : Int32} {post : Int32 → SX → Prop} {disk mem : Nat → Int32} (eb : 1 - disk 0 = nI b) (e : 1 + nI b * nI m = nI B)
    (h : wX_sync_68 post z (nI L) (nI b) (nI B) (nI m) 0 n (nI 0) (nI 0) disk mem) : wX_sync_41 post z (nI L) (nI m) 0 disk mem := by
  intro x4 e4 x5 e5
  rw [eb] at e4
  subst e4
  rw [e] at e5
  subst e5
  rw [nI_0] at h
  exact ⟨n, h⟩
theorem sc_x26 {m b B n : Nat} {p : Int32} {post : Int32 → SX → Prop} {disk mem : Nat → Int32} (eb : 1 - disk 0 = nI b) (e : 1 + nI b * nI m = nI B)
    (h : wX_sync_68 post 0 (nI (m + 1)) (nI b) (nI B) (nI m) 0 n (nI 0) (nI 0) disk mem) : wX_sync_26 post p (nI m) 0 disk mem := by
  intro x3 e3
  rw [nI_1 m] at e3
  subst e3
  exact br_t rfl (sc_x41 eb e h)
theorem sc_x27 {m b B n L : Nat} {post : Int32 → SX → Prop} {disk mem : Nat → Int32} (eb : 1 - disk 0 = nI b) (e : 1 + nI b * nI m = nI B)
    (h : wX_sync_68 post 1 (nI L) (nI b) (nI B) (nI m) 0 n (nI 0) (nI 0) disk mem) : wX_sync_27 post (nI L) 1 (nI m) 0 disk mem := by
  intro x3 e3
  exact br_f (by decide) (sc_x41 eb e h)
theorem sc_y {m b n : Nat} {p : Int32} {post : Int32 → SY → Prop} {disk mem : Nat → Int32} (eb : 1 - disk 0 = nI b)
    (h : wY_sync_21 post p (nI b) (nI m) 0 n (nI 0) disk mem) : wpY_sync post (nI m, 0, disk, mem) p := by
  refine br_t rfl fun x2 e2 => ?_
  rw [eb] at e2
  subst e2
  rw [nI_0] at h
  exact ⟨n, h⟩
/-- a sync of a system that is up: one answer and one state for both -/
theorem sc_out {m : Nat} {disk mem : Nat → Int32} (hm : m ≤ 16) (hr : sc_root disk) (p : Int32) : ∃ (r : Int32) (u : SX), sc_ok u ∧
    (∀ post : Int32 → SX → Prop, post r u → wpX_sync post (nI m, 0, disk, mem) p) ∧
    (∀ post : Int32 → SY → Prop, post r u → wpY_sync post (nI m, 0, disk, mem) p) := by
  obtain ⟨c, hc, ec⟩ := id hr
  have eb : 1 - disk 0 = nI (1 - c) := by
    rw [ec]
    exact sc_flip hc
  have hb : 1 - c ≤ 1 := by omega
  have hbm : (1 - c) * m ≤ m := sc_bm hb hm
  have e := sc_base (1 - c) m
  have hB1 : 1 ≤ 1 + (1 - c) * m := by omega
  have hB : 1 + (1 - c) * m + m ≤ 33 := by omega
  by_cases h0 : p < 0
  · have hn : ∀ j : Nat, j ≤ m → ¬ p = nI j := fun j hj z => nI_pos (n := j) (by omega) (z ▸ h0)
    obtain ⟨r, u, ho, hX, hY⟩ := sc_syn (mem := mem) (p := p) (z := 0) (L := m + 1) hm hb hB1 hB e (Or.inr ⟨rfl, rfl, hn⟩) m 0 disk (by omega) (by omega) hr
    exact ⟨r, u, ho, fun post hp => br_t rfl (br_t h0 (sc_x26 eb e (hX post hp))), fun post hp => sc_y eb (hY post hp)⟩
  · obtain ⟨l, hl, rfl⟩ := nI_of h0
    by_cases h1 : nI m < nI l
    · have h2 : m < l := (nI_ltI (by omega) hl).mp h1
      have hn : ∀ j : Nat, j ≤ m → ¬ nI l = nI j := fun j hj z => by
        rw [nI_eq hl (by omega)] at z
        omega
      obtain ⟨r, u, ho, hX, hY⟩ := sc_syn (mem := mem) (p := nI l) (z := 0) (L := m + 1) hm hb hB1 hB e (Or.inr ⟨rfl, rfl, hn⟩) m 0 disk (by omega) (by omega) hr
      exact ⟨r, u, ho, fun post hp => br_t rfl (br_f h0 (br_t h1 (sc_x26 eb e (hX post hp)))), fun post hp => sc_y eb (hY post hp)⟩
    · have h2 : ¬ m < l := fun z => h1 ((nI_ltI (by omega) hl).mpr z)
      obtain ⟨r, u, ho, hX, hY⟩ := sc_syn (mem := mem) (p := nI l) (z := 1) (L := l) hm hb hB1 hB e (Or.inl ⟨rfl, by omega, rfl⟩) m 0 disk (by omega) (by omega) hr
      exact ⟨r, u, ho, fun post hp => br_t rfl (br_f h0 (br_f h1 (sc_x27 eb e (hX post hp)))), fun post hp => sc_y eb (hY post hp)⟩
end
section
theorem i_up {k : Nat} {u : SX} {v : SY} (h : i_Rel k u v) : i_Rel (k + 3) u v := h
theorem i_vc0 (k0 : Int32) : wpX_init (fun u => wpY_init (fun v => i_Rel 1 u v) k0) k0 := by
  by_cases h0 : 0 ≤ k0
  · by_cases h1 : k0 ≤ 16
    · have h2 : ¬ k0 < 0 := Int32.not_lt.mpr h0
      obtain ⟨j, hj, rfl⟩ := nI_of2 (M := 16) (n := 16) (by decide) h2 h1
      exact br_t h0 (br_t h1 (br_t h0 (br_t h1 (sc_z 1 j hj))))
    · have hz := sc_z 1 16 (by omega)
      rw [← sc_16] at hz
      exact br_t h0 (br_f h1 (br_t h0 (br_f h1 hz)))
  · have hz := sc_z 1 0 (by omega)
    rw [nI_0] at hz
    exact br_f h0 (br_t (by decide) (br_f h0 hz))
theorem i_vc_write {k : Nat} {u : SX} {v : SY} (I : i_Rel k u v) (hk : k + 3 ≤ 1537) (v1 : Int32) (v2 : Int32) : wpX_write (fun r u' => wpY_write (fun r' v' => r' = r ∧ i_Rel (k + 3) u' v') v v1 v2) u v1 v2 := by
  obtain ⟨rfl, m, dn, disk, mem, hm, hr, rfl⟩ := I
  by_cases hz : dn = 0
  · by_cases h0 : v1 < 0
    · exact br_t hz (br_t h0 (br_t hz (br_t h0 ⟨rfl, sc_rel hm hr⟩)))
    · by_cases h1 : v1 < nI m
      · have hi : vp_in v1 16 := by
          obtain ⟨j, hj, rfl⟩ := nI_of h0
          rw [nI_ltI hj (by omega)] at h1
          exact vp_in_nI (by omega) (by omega)
        refine br_t hz (br_f h0 (br_t h1 ⟨hi, fun a ea => br_t hz (br_f h0 (br_t h1 ⟨hi, fun a' ea' => ⟨rfl, ?_⟩⟩))⟩))
        rw [ea, ea']
        exact sc_rel hm hr
      · exact br_t hz (br_f h0 (br_f h1 (br_t hz (br_f h0 (br_f h1 ⟨rfl, sc_rel hm hr⟩)))))
  · exact br_f hz (br_f hz ⟨rfl, sc_rel hm hr⟩)
theorem i_vc_read {k : Nat} {u : SX} {v : SY} (I : i_Rel k u v) (hk : k + 3 ≤ 1537) (v1 : Int32) : wpX_read (fun r => wpY_read (fun r' => r' = r ∧ i_Rel (k + 3) u v) v v1) u v1 := by
  obtain ⟨rfl, m, dn, disk, mem, hm, hr, rfl⟩ := I
  by_cases hz : dn = 0
  · by_cases h0 : v1 < 0
    · exact br_t hz (br_t h0 (br_t hz (br_t h0 ⟨rfl, sc_rel hm hr⟩)))
    · by_cases h1 : v1 < nI m
      · have hi : vp_in v1 16 := by
          obtain ⟨j, hj, rfl⟩ := nI_of h0
          rw [nI_ltI hj (by omega)] at h1
          exact vp_in_nI (by omega) (by omega)
        exact br_t hz (br_f h0 (br_t h1 ⟨hi, br_t hz (br_f h0 (br_t h1 ⟨hi, rfl, sc_rel hm hr⟩))⟩))
      · exact br_t hz (br_f h0 (br_f h1 (br_t hz (br_f h0 (br_f h1 ⟨rfl, sc_rel hm hr⟩)))))
  · exact br_f hz (br_f hz ⟨rfl, sc_rel hm hr⟩)
theorem i_vc_sync {k : Nat} {u : SX} {v : SY} (I : i_Rel k u v) (hk : k + 3 ≤ 1537) (v1 : Int32) : wpX_sync (fun r u' => wpY_sync (fun r' v' => r' = r ∧ i_Rel (k + 3) u' v') v v1) u v1 := by
  obtain ⟨rfl, m, dn, disk, mem, hm, hr, rfl⟩ := I
  by_cases hz : dn = 0
  · subst hz
    obtain ⟨r, u', ho, hX, hY⟩ := sc_out (mem := mem) hm hr v1
    exact hX _ (hY _ ⟨rfl, rfl, ho⟩)
  · exact br_f hz (br_f hz ⟨rfl, sc_rel hm hr⟩)
theorem i_vc_recover {k : Nat} {u : SX} {v : SY} (I : i_Rel k u v) (hk : k + 3 ≤ 1537) : wpX_recover (fun r u' => wpY_recover (fun r' v' => r' = r ∧ i_Rel (k + 3) u' v') v) u := by
  obtain ⟨rfl, m, dn, disk, mem, hm, hr, rfl⟩ := I
  obtain ⟨c, hc, ec⟩ := id hr
  have hbm : c * m ≤ m := sc_bm hc hm
  have e := sc_base c m
  have hB : 1 + c * m + m ≤ 33 := by omega
  obtain ⟨mem', hX, hY⟩ := sc_rec (dn := 0) (disk := disk) hm hB e m 0 mem (by omega)
  rw [nI_0] at hX hY
  intro x1 e1 x2 e2
  rw [ec] at e1
  subst e1
  rw [e] at e2
  subst e2
  refine ⟨m + 1, hX _ ?_⟩
  intro y1 f1
  rw [ec] at f1
  subst f1
  exact ⟨m + 1, hY _ ⟨rfl, sc_rel hm hr⟩⟩
theorem i_vc_peekDisk {k : Nat} {u : SX} {v : SY} (I : i_Rel k u v) (hk : k + 3 ≤ 1537) (v1 : Int32) : wpX_peekDisk (fun r => wpY_peekDisk (fun r' => r' = r ∧ i_Rel (k + 3) u v) v v1) u v1 := by
  obtain ⟨rfl, m, dn, disk, mem, hm, hr, rfl⟩ := I
  by_cases h0 : v1 < 0
  · exact br_t h0 (br_t h0 ⟨rfl, sc_rel hm hr⟩)
  · by_cases h1 : v1 ≤ 2 * nI m
    · have hi : vp_in v1 33 := by
        obtain ⟨j, hj, rfl⟩ := nI_of h0
        have e2 : (2 : Int32) * nI m = nI (2 * m) := sc_mul 2 m
        rw [e2, nI_leI hj (by omega)] at h1
        exact vp_in_nI (by omega) (by omega)
      exact br_f h0 (br_t h1 ⟨hi, br_f h0 (br_t h1 ⟨hi, rfl, sc_rel hm hr⟩)⟩)
    · exact br_f h0 (br_f h1 (br_f h0 (br_f h1 ⟨rfl, sc_rel hm hr⟩)))
end
