section
theorem pk_us {f : Nat → Int32} {k : Nat} {x : Int32} : upd f k x k = x := if_pos rfl
theorem pk_un {f : Nat → Int32} {k j : Nat} {x : Int32} (h : j ≠ k) : upd f k x j = f j := if_neg h
theorem pk_charN {q : Nat} (hq : q < 65536) : narrow .char (.int (nI q)) = .int (nI q) ∧ fits .char (.int (nI q)) = true := by
  constructor
  · have e : (nI q).toUInt32.toUInt16.toUInt32.toInt32 = nI q := by
      apply Int32.toBitVec_inj.mp
      apply BitVec.eq_of_toNat_eq
      show (nI q).toUInt32.toUInt16.toUInt32.toNat = q % 2 ^ 32
      rw [UInt16.toNat_toUInt32, UInt32.toNat_toUInt16, show (nI q).toUInt32.toNat = q % 2 ^ 32 from rfl]
      omega
    exact congrArg Value.int e
  · have a : (0 : Int32) ≤ nI q := nI_pos' (by omega)
    have b : nI q ≤ 65535 := nI_le (b := 65535) (by omega) (by decide)
    show (decide ((0 : Int32) ≤ nI q) && decide (nI q ≤ 65535)) = true
    rw [decide_eq_true a, decide_eq_true b]
    rfl
/-! numbers below 8 -/
theorem oc_and : ∀ m, m < 8 → nI m &&& 7 = nI m := by decide +kernel
theorem oc_cast : ∀ m, m < 8 → ((nI m).toUInt32 % 65536).toInt32 = nI m := by decide +kernel
theorem oc_nar {m : Nat} (h : m < 8) : vp_nar .char (nI m) = nI m := Value.int.inj (pk_charN (q := m) (by omega)).1
theorem oc_narrow {m : Nat} (h : m < 8) : narrow .char (.int (nI m)) = .int (nI m) := (pk_charN (q := m) (by omega)).1
theorem oc_fits {m : Nat} (h : m < 8) : fits .char (.int (nI m)) = true := (pk_charN (q := m) (by omega)).2
theorem oc_c0 : vp_nar .char 0 = 0 := by rw [vp_nar_char]; decide
theorem oc_b0 : vp_nar .byte 0 = 0 := by rw [vp_nar_byte]; decide
theorem oc_b1 : vp_nar .byte 1 = 1 := by rw [vp_nar_byte]; decide
theorem oc_in {m : Nat} (h : m < 8) : vp_in (nI m) 8 := vp_in_nI h (by decide)
theorem oc_cl {m : Nat} (h : m < 8) : (nI m).toNatClampNeg = m := nI_clamp (by omega)
theorem oc_eq {a b : Nat} (ha : a < 8) (hb : b < 8) (h : nI a = nI b) : a = b := (nI_eq (by omega) (by omega)).mp h
theorem oc_n8 {i : Nat} (h : i < 8) : ¬ (8 : Int32) ≤ nI i := nI_ge (a := i) (b := 8) h (by decide)
theorem oc_n1 {i : Nat} (h : 1 ≤ i) (h8 : i < 8) : ¬ nI i < 1 := nI_nlt (a := i) (b := 1) h (by omega)
theorem oc_l7 {i : Nat} (h : i < 8) : nI i ≤ 7 := nI_le (a := i) (b := 7) (by omega) (by decide)
/-- an argument: below 1, above 7, or a number of an inode -/
theorem oc_range (x : Int32) : x < 1 ∨ (¬ x < 1 ∧ ¬ x ≤ 7) ∨ ∃ j : Nat, 1 ≤ j ∧ j < 8 ∧ x = nI j := by
  by_cases h1 : x < 1
  · exact Or.inl h1
  · by_cases h7 : x ≤ 7
    · have h0 : ¬ x < 0 := by
        rw [Int32.lt_iff_toInt_lt] at h1 ⊢
        have e0 : (0 : Int32).toInt = 0 := by decide
        have e1 : (1 : Int32).toInt = 1 := by decide
        omega
      obtain ⟨j, hj, rfl⟩ := nI_of2 (M := 7) (n := 7) (by decide) h0 h7
      refine Or.inr (Or.inr ⟨j, ?_, by omega, rfl⟩)
      rcases Nat.eq_zero_or_pos j with z | z
      · rw [z] at h1
        exact absurd (show nI 0 < 1 by decide) h1
      · exact z
    · exact Or.inr (Or.inl ⟨h1, h7⟩)
/-! the chain: the value h leads along nx through the numbers of the list, and ends in 0 -/
def oc_Ch (nx : Nat → Int32) : Int32 → List Nat → Prop
  | h, [] => h = 0
  | h, x :: l => h = nI x ∧ oc_Ch nx (nx x) l
/-- the numbers of the list are inodes -/
def oc_B (l : List Nat) : Prop := ∀ x ∈ l, 1 ≤ x ∧ x < 8
theorem oc_B_tail {x : Nat} {l : List Nat} (h : oc_B (x :: l)) : oc_B l := fun y hy => h y (List.mem_cons_of_mem _ hy)
theorem oc_Ch_head {nx : Nat → Int32} {h : Int32} {l : List Nat} (hb : oc_B l) (hc : oc_Ch nx h l) : ∃ m, m < 8 ∧ h = nI m := by
  cases l with
  | nil => exact ⟨0, by omega, hc.trans nI_0.symm⟩
  | cons x l => exact ⟨x, (hb x List.mem_cons_self).2, hc.1⟩
theorem oc_Ch_congr {nx nx' : Nat → Int32} (l : List Nat) : ∀ h : Int32, (∀ x ∈ l, nx' x = nx x) → oc_Ch nx h l → oc_Ch nx' h l := by
  induction l with
  | nil => intro h _ hc; exact hc
  | cons x l ih =>
    intro h he hc
    refine ⟨hc.1, ?_⟩
    rw [he x List.mem_cons_self]
    exact ih _ (fun y hy => he y (List.mem_cons_of_mem _ hy)) hc.2
/-- different numbers below n are at most n -/
theorem oc_len (n : Nat) : ∀ l : List Nat, l.Nodup → (∀ x ∈ l, x < n) → l.length ≤ n := by
  induction n with
  | zero =>
    intro l _ hb
    cases l with
    | nil => exact Nat.le_refl _
    | cons x l => exact absurd (hb x List.mem_cons_self) (Nat.not_lt_zero _)
  | succ n ih =>
    intro l hd hb
    by_cases hn : n ∈ l
    · have h2 := ih (l.erase n) (hd.erase n) (fun x hx => by
        have h3 := (List.Nodup.mem_erase_iff hd).mp hx
        have h4 := hb x h3.2
        have h5 := h3.1
        omega)
      rw [List.length_erase_of_mem hn] at h2
      omega
    · have h2 := ih l hd (fun x hx => by
        have h4 := hb x hx
        have h5 : x ≠ n := fun e => hn (e ▸ hx)
        omega)
      omega
/-- what both states keep -/
def oc_Inv (h : Int32) (nx ls : Nat → Int32) : Prop := ∃ l : List Nat, l.Nodup ∧ oc_B l ∧ oc_Ch nx h l ∧ ∀ i, ls i = 0 ↔ i ∉ l
end
section
/-! the ends of del -/
theorem oc_x117 {post : Int32 → SX → Prop} {j : Nat} (hj : j < 8) {fh : Int32} {nx ls : Nat → Int32} (h : post 0 (fh, upd nx j 0, upd ls j 0)) : wX_del_117 post (nI j) fh nx ls := by
  unfold wX_del_117
  exact ⟨oc_in hj, nm_r (by rw [oc_cl hj, oc_c0]) ⟨oc_in hj, nm_r (by rw [oc_cl hj, oc_b0]) h⟩⟩
theorem oc_y103 {post : Int32 → SY → Prop} {j : Nat} (hj : j < 8) {fh : Int32} {nx ls : Nat → Int32} (h : post 0 (fh, upd nx j 0, upd ls j 0)) : wY_del_103 post (nI j) fh nx ls := by
  unfold wY_del_103
  exact ⟨oc_in hj, nm_r (by rw [oc_cl hj, oc_c0]) ⟨oc_in hj, nm_r (by rw [oc_cl hj, oc_b0]) h⟩⟩
theorem oc_y88 {post : Int32 → SY → Prop} {j p m : Nat} (hj : j < 8) (hp : p < 8) (hm : m < 8) {fh : Int32} {nx ls : Nat → Int32} (e : nx j = nI m) (h : post 0 (fh, upd (upd nx p (nx j)) j 0, upd ls j 0)) : wY_del_88 post (nI j) (nI p) fh nx ls := by
  unfold wY_del_88
  rw [oc_and p hp]
  exact ⟨oc_in hj, oc_in hp, nm_r (e' := upd nx p (nx j)) (by rw [oc_cl hj, oc_cl hp, e, oc_nar hm]) (oc_y103 hj h)⟩
/-- one round of X's loop that finds the predecessor -/
theorem oc_xhit {post : Int32 → SX → Prop} {j x i m n : Nat} (hj : j < 8) (hx1 : 1 ≤ x) (hx : x < 8) (hi : i < 8) (hm : m < 8) {fh : Int32} {nx ls : Nat → Int32} (e : nx x = nI j) (ej : nx j = nI m) (h : post 0 (fh, upd (upd nx x (nx j)) j 0, upd ls j 0)) : wX_del_59 post (nI j) fh (n + 1 + 1) (nI x) 0 (nI i) nx ls := by
  have hf : wX_del_117 post (nI j) fh (upd nx x (nx j)) ls := oc_x117 hj h
  rw [wX_del_59]
  dsimp only
  refine br_f (oc_n8 hi) (br_t rfl (br_f (nI_ne0 hx1 (by omega)) ⟨oc_in hx, br_t (by rw [oc_cl hx]; exact e) ⟨oc_in hj, oc_in hx, nm_r (e' := upd nx x (nx j)) (by rw [oc_cl hj, oc_cl hx, ej, oc_nar hm]) ?_⟩⟩))
  refine nm_e ?_
  rw [wX_del_59]
  dsimp only
  exact br_c (fun _ => hf) (fun _ => br_f (by decide) hf)
/-- one round of X's loop that goes on -/
theorem oc_xstep {post : Int32 → SX → Prop} {j x y i n : Nat} (hj : j < 8) (hx1 : 1 ≤ x) (hx : x < 8) (hy : y < 8) (hi : i < 8) {fh : Int32} {nx ls : Nat → Int32} (e : nx x = nI y) (hne : y ≠ j) (h : wX_del_59 post (nI j) fh n (nI y) 0 (nI (i + 1)) nx ls) : wX_del_59 post (nI j) fh (n + 1) (nI x) 0 (nI i) nx ls := by
  rw [wX_del_59]
  dsimp only
  refine br_f (oc_n8 hi) (br_t rfl (br_f (nI_ne0 hx1 (by omega)) ⟨oc_in hx, br_f (by rw [oc_cl hx, e]; exact fun z => hne (oc_eq hy hj z)) ⟨oc_in hx, nm_r (e' := nI y) (by rw [oc_cl hx, e, oc_and y hy]) (nm_r (e' := nI (i + 1)) (nI_1 i) h)⟩⟩))
/-- the same of Y's loop -/
theorem oc_yhit {post : Int32 → SY → Prop} {j x i m n : Nat} (hj : j < 8) (hx : x < 8) (hi : i < 8) (hm : m < 8) {fh : Int32} {nx ls : Nat → Int32} (e : nx x = nI j) (ej : nx j = nI m) (h : post 0 (fh, upd (upd nx x (nx j)) j 0, upd ls j 0)) : wY_del_53 post (nI j) fh nx ls (n + 1) (nI x) (nI i) := by
  have hf : wY_del_88 post (nI j) (nI x) fh nx ls := oc_y88 hj hx hm ej h
  rw [wY_del_53]
  dsimp only
  rw [oc_and x hx]
  exact br_f (oc_n8 hi) ⟨oc_in hx, br_t (by rw [oc_cl hx]; exact e) hf⟩
theorem oc_ystep {post : Int32 → SY → Prop} {j x y i n : Nat} (hj : j < 8) (hx : x < 8) (hy : y < 8) (hi : i < 8) {fh : Int32} {nx ls : Nat → Int32} (e : nx x = nI y) (hne : y ≠ j) (h : wY_del_53 post (nI j) fh nx ls n (nI y) (nI (i + 1))) : wY_del_53 post (nI j) fh nx ls (n + 1) (nI x) (nI i) := by
  rw [wY_del_53]
  dsimp only
  rw [oc_and x hx]
  exact br_f (oc_n8 hi) ⟨oc_in hx, br_f (by rw [oc_cl hx, e]; exact fun z => hne (oc_eq hy hj z)) ⟨oc_in hx, nm_r (e' := nI y) (by rw [oc_cl hx, e]) (nm_r (e' := nI (i + 1)) (nI_1 i) h)⟩⟩
/-- both loops from x on, where j stands behind x: they end alike, and the chain is the old one without j -/
theorem oc_loop {nx ls : Nat → Int32} {fh : Int32} {j : Nat} (l : List Nat) : ∀ x i : Nat, oc_B (x :: l) → (x :: l).Nodup → oc_Ch nx (nx x) l → j ∈ l → i + l.length ≤ 8 →
    ∃ p, p ∈ x :: l ∧ p ≠ j ∧ oc_Ch (upd (upd nx p (nx j)) j 0) (nI x) (x :: l.erase j) ∧
      (∀ post : Int32 → SX → Prop, post 0 (fh, upd (upd nx p (nx j)) j 0, upd ls j 0) → wX_del_59 post (nI j) fh (l.length + 1) (nI x) 0 (nI i) nx ls) ∧
      (∀ post : Int32 → SY → Prop, post 0 (fh, upd (upd nx p (nx j)) j 0, upd ls j 0) → wY_del_53 post (nI j) fh nx ls (l.length + 1) (nI x) (nI i)) := by
  induction l with
  | nil => intro x i _ _ _ hm; exact absurd hm List.not_mem_nil
  | cons y l ih =>
    intro x i hb hd hc hm hi
    have hbx := hb x List.mem_cons_self
    have hby := hb y (List.mem_cons_of_mem _ List.mem_cons_self)
    have hbj := hb j (List.mem_cons_of_mem _ hm)
    have hdx : x ∉ y :: l := (List.nodup_cons.mp hd).1
    have hd' : (y :: l).Nodup := (List.nodup_cons.mp hd).2
    have hxj : x ≠ j := fun e => hdx (e ▸ hm)
    rw [List.length_cons] at hi ⊢
    by_cases hyj : y = j
    · subst hyj
      obtain ⟨m, hm8, em⟩ := oc_Ch_head (oc_B_tail (oc_B_tail hb)) hc.2
      refine ⟨x, List.mem_cons_self, hxj, ?_, fun post hp => oc_xhit hby.2 hbx.1 hbx.2 (by omega) hm8 hc.1 em hp, fun post hp => oc_yhit hby.2 hbx.2 (by omega) hm8 hc.1 em hp⟩
      rw [List.erase_cons_head]
      refine ⟨rfl, ?_⟩
      rw [pk_un hxj, pk_us]
      refine oc_Ch_congr l _ (fun z hz => ?_) hc.2
      have h1 : z ≠ y := fun e => (List.nodup_cons.mp hd').1 (e ▸ hz)
      have h2 : z ≠ x := fun e => hdx (List.mem_cons_of_mem _ (e ▸ hz))
      rw [pk_un h1, pk_un h2]
    · have hml : j ∈ l := by
        rcases List.mem_cons.mp hm with e | e
        · exact absurd e.symm hyj
        · exact e
      obtain ⟨p, hp, hpj, hch, hX, hY⟩ := ih y (i + 1) (oc_B_tail hb) hd' hc.2 hml (by omega)
      refine ⟨p, List.mem_cons_of_mem _ hp, hpj, ?_, fun post h => oc_xstep hbj.2 hbx.1 hbx.2 hby.2 (by omega) hc.1 hyj (hX post h), fun post h => oc_ystep hbj.2 hbx.2 hby.2 (by omega) hc.1 hyj (hY post h)⟩
      have hxp : x ≠ p := fun e => hdx (e ▸ hp)
      rw [List.erase_cons_tail (by simpa using hyj)]
      refine ⟨rfl, ?_⟩
      rw [pk_un hxj, pk_un hxp, hc.1]
      exact hch
/-! the pure law: what the calls do to the list -/
theorem oc_Inv_add {h : Int32} {nx ls : Nat → Int32} {j : Nat} (hj1 : 1 ≤ j) (hj : j < 8) (I : oc_Inv h nx ls) (z : ls j = 0) : oc_Inv (nI j) (upd nx j h) (upd ls j 1) := by
  obtain ⟨l, hd, hb, hc, hl⟩ := I
  have hn : j ∉ l := (hl j).mp z
  refine ⟨j :: l, List.nodup_cons.mpr ⟨hn, hd⟩, ?_, ⟨rfl, ?_⟩, ?_⟩
  · intro x hx
    rcases List.mem_cons.mp hx with e | e
    · rw [e]; exact ⟨hj1, hj⟩
    · exact hb x e
  · rw [pk_us]
    exact oc_Ch_congr l _ (fun x hx => pk_un (fun e => hn (e ▸ hx))) hc
  · intro i
    by_cases e : i = j
    · rw [e, pk_us]
      exact ⟨fun q => absurd q (by decide), fun q => absurd List.mem_cons_self q⟩
    · rw [pk_un e, hl i, List.mem_cons]
      exact ⟨fun q r => r.elim e q, fun q r => q (Or.inr r)⟩
/-- the flags without j are those of the list without j -/
theorem oc_ls_del {ls : Nat → Int32} {l : List Nat} {j : Nat} (hd : l.Nodup) (hl : ∀ i, ls i = 0 ↔ i ∉ l) (i : Nat) : upd ls j 0 i = 0 ↔ i ∉ l.erase j := by
  rw [List.Nodup.mem_erase_iff hd]
  by_cases e : i = j
  · rw [e, pk_us]
    exact ⟨fun _ q => q.1 rfl, fun _ => rfl⟩
  · rw [pk_un e, hl i]
    exact ⟨fun q r => q r.2, fun q r => q ⟨e, r⟩⟩
/-- the head goes: by del or by reap -/
theorem oc_Inv_pop {nx ls : Nat → Int32} {x : Nat} {l : List Nat} (hd : (x :: l).Nodup) (hb : oc_B (x :: l)) (hc : oc_Ch nx (nx x) l) (hl : ∀ i, ls i = 0 ↔ i ∉ x :: l) : oc_Inv (nx x) (upd nx x 0) (upd ls x 0) := by
  have hn := (List.nodup_cons.mp hd).1
  refine ⟨l, (List.nodup_cons.mp hd).2, oc_B_tail hb, oc_Ch_congr l _ (fun z hz => pk_un (fun e => hn (e ▸ hz))) hc, ?_⟩
  intro i
  have h := oc_ls_del (j := x) hd hl i
  rw [List.erase_cons_head] at h
  exact h
end
section
/-- both states are the same, and it is that of a list of different inodes -/
def i_Rel (_ : Nat) (u : SX) (v : SY) : Prop := u = v ∧ oc_Inv u.1 u.2.1 u.2.2
theorem i_up {k : Nat} {u : SX} {v : SY} (h : i_Rel k u v) : i_Rel (k + 2) u v := h
theorem i_vc0 : wpX_init (fun u => wpY_init (fun v => i_Rel 0 u v)) := ⟨rfl, [], List.nodup_nil, fun _ h => absurd h List.not_mem_nil, rfl, fun _ => ⟨fun _ => List.not_mem_nil, fun _ => rfl⟩⟩
theorem i_vc_add {k : Nat} {u : SX} {v : SY} (I : i_Rel k u v) (hk : k + 2 ≤ 1024) (v1 : Int32) : wpX_add (fun r u' => wpY_add (fun r' v' => r' = r ∧ i_Rel (k + 2) u' v') v v1) u v1 := by
  obtain ⟨rfl, I⟩ := I
  obtain ⟨fh, nx, ls⟩ := u
  have I : oc_Inv fh nx ls := I
  unfold wpX_add wpY_add
  dsimp only
  rcases oc_range v1 with h | h | ⟨j, hj1, hj, rfl⟩
  · exact br_t h (br_t h ⟨rfl, rfl, I⟩)
  · exact br_f h.1 (br_f h.2 (br_f h.1 (br_f h.2 ⟨rfl, rfl, I⟩)))
  · have hn1 := oc_n1 hj1 hj
    have hl7 := oc_l7 hj
    have hin := oc_in hj
    rw [oc_cl hj, oc_cast j hj]
    by_cases z : ls j = 0
    · have I' := oc_Inv_add hj1 hj I z
      obtain ⟨l, hd, hb, hc, hl⟩ := I
      obtain ⟨m, hm, rfl⟩ := oc_Ch_head hb hc
      rw [oc_nar hm, oc_b1]
      exact br_f hn1 (br_t hl7 ⟨hin, br_t z ⟨hin, nm_e (nm_e ⟨oc_narrow hj, oc_fits hj, hin, nm_e (br_f hn1 (br_t hl7 ⟨hin, br_t z ⟨hin, nm_e (nm_e ⟨oc_narrow hj, oc_fits hj, hin, nm_e ⟨rfl, rfl, I'⟩⟩)⟩⟩))⟩)⟩⟩)
    · exact br_f hn1 (br_t hl7 ⟨hin, br_f z (br_f hn1 (br_t hl7 ⟨hin, br_f z ⟨rfl, rfl, I⟩⟩))⟩)
/-- del of a listed inode: one end state for both sides -/
theorem oc_del {fh : Int32} {nx ls : Nat → Int32} {j : Nat} (hj1 : 1 ≤ j) (hj : j < 8) (I : oc_Inv fh nx ls) (z : ¬ ls j = 0) :
    ∃ (g : Int32) (a b : Nat → Int32), oc_Inv g a b ∧ (∀ post : Int32 → SX → Prop, post 0 (g, a, b) → wpX_del post (fh, nx, ls) (nI j)) ∧ (∀ post : Int32 → SY → Prop, post 0 (g, a, b) → wpY_del post (fh, nx, ls) (nI j)) := by
  obtain ⟨l, hd, hb, hc, hl⟩ := I
  have hn1 := oc_n1 hj1 hj
  have hl7 := oc_l7 hj
  have hin := oc_in hj
  have hm : j ∈ l := Classical.byContradiction (fun q => z ((hl j).mpr q))
  cases l with
  | nil => exact absurd hm List.not_mem_nil
  | cons x l =>
    have hbx := hb x List.mem_cons_self
    obtain ⟨rfl, hc⟩ := hc
    by_cases hxj : x = j
    · subst hxj
      obtain ⟨m, hm8, em⟩ := oc_Ch_head (oc_B_tail hb) hc
      refine ⟨nx x, upd nx x 0, upd ls x 0, oc_Inv_pop hd hb hc hl, fun post hp => ?_, fun post hp => ?_⟩
      · unfold wpX_del
        dsimp only
        rw [oc_cl hj]
        exact br_f hn1 (br_t hl7 ⟨hin, br_f z (br_t rfl ⟨hin, nm_e ⟨by rw [em]; exact oc_narrow hm8, by rw [em]; exact oc_fits hm8, oc_x117 hj hp⟩⟩)⟩)
      · unfold wpY_del
        dsimp only
        rw [oc_cl hj]
        exact br_f hn1 (br_t hl7 ⟨hin, br_f z (br_t rfl ⟨hin, nm_e ⟨by rw [em]; exact oc_narrow hm8, by rw [em]; exact oc_fits hm8, oc_y103 hj hp⟩⟩)⟩)
    · have hml : j ∈ l := by
        rcases List.mem_cons.mp hm with e | e
        · exact absurd e.symm hxj
        · exact e
      have hlen : l.length + 1 ≤ 8 := oc_len 8 (x :: l) hd (fun y hy => (hb y hy).2)
      have hne : ¬ nI x = nI j := fun e => hxj (oc_eq hbx.2 hj e)
      obtain ⟨p, hp, hpj, hch, hX, hY⟩ := oc_loop (nx := nx) (ls := ls) (fh := nI x) (j := j) l x 0 hb hd hc hml (by omega)
      rw [nI_0] at hX hY
      refine ⟨nI x, upd (upd nx p (nx j)) j 0, upd ls j 0, ⟨x :: l.erase j, ?_, ?_, hch, ?_⟩, fun post h => ?_, fun post h => ?_⟩
      · have q := hd.erase j
        rw [List.erase_cons_tail (by simpa using hxj)] at q
        exact q
      · intro y hy
        rcases List.mem_cons.mp hy with e | e
        · rw [e]; exact hbx
        · exact hb y (List.mem_cons_of_mem _ (List.mem_of_mem_erase e))
      · intro i
        have q := oc_ls_del (j := j) hd hl i
        rw [List.erase_cons_tail (by simpa using hxj)] at q
        exact q
      · unfold wpX_del
        dsimp only
        rw [oc_cl hj]
        exact br_f hn1 (br_t hl7 ⟨hin, br_f z (br_f hne (nm_r (e' := nI x) (oc_and x hbx.2) ⟨_, hX post h⟩))⟩)
      · unfold wpY_del
        dsimp only
        rw [oc_cl hj]
        exact br_f hn1 (br_t hl7 ⟨hin, br_f z (br_f hne ⟨_, hY post h⟩)⟩)
theorem i_vc_del {k : Nat} {u : SX} {v : SY} (I : i_Rel k u v) (hk : k + 2 ≤ 1024) (v1 : Int32) : wpX_del (fun r u' => wpY_del (fun r' v' => r' = r ∧ i_Rel (k + 2) u' v') v v1) u v1 := by
  obtain ⟨rfl, I⟩ := I
  obtain ⟨fh, nx, ls⟩ := u
  have I : oc_Inv fh nx ls := I
  rcases oc_range v1 with h | h | ⟨j, hj1, hj, rfl⟩
  · unfold wpX_del wpY_del
    dsimp only
    exact br_t h (br_t h ⟨rfl, rfl, I⟩)
  · unfold wpX_del wpY_del
    dsimp only
    exact br_f h.1 (br_f h.2 (br_f h.1 (br_f h.2 ⟨rfl, rfl, I⟩)))
  · by_cases z : ls j = 0
    · unfold wpX_del wpY_del
      dsimp only
      rw [oc_cl hj]
      exact br_f (oc_n1 hj1 hj) (br_t (oc_l7 hj) ⟨oc_in hj, br_t z (br_f (oc_n1 hj1 hj) (br_t (oc_l7 hj) ⟨oc_in hj, br_t z ⟨rfl, rfl, I⟩⟩))⟩)
    · obtain ⟨g, a, b, I', hX, hY⟩ := oc_del hj1 hj I z
      exact hX _ (hY _ ⟨rfl, rfl, I'⟩)
theorem i_vc_reap {k : Nat} {u : SX} {v : SY} (I : i_Rel k u v) (hk : k + 2 ≤ 1024) : wpX_reap (fun r u' => wpY_reap (fun r' v' => r' = r ∧ i_Rel (k + 2) u' v') v) u := by
  obtain ⟨rfl, I⟩ := I
  obtain ⟨fh, nx, ls⟩ := u
  have I : oc_Inv fh nx ls := I
  unfold wpX_reap wpY_reap
  dsimp only
  have I2 := I
  obtain ⟨l, hd, hb, hc, hl⟩ := I2
  cases l with
  | nil =>
    have e : fh = 0 := hc
    subst e
    exact br_t rfl (nm_r (e' := 0) (by decide) (br_t rfl ⟨rfl, rfl, I⟩))
  | cons x l =>
    have hbx := hb x List.mem_cons_self
    obtain ⟨rfl, hc⟩ := hc
    have hx0 := nI_ne0 (n := x) hbx.1 (by omega)
    obtain ⟨m, hm8, em⟩ := oc_Ch_head (oc_B_tail hb) hc
    have I' := oc_Inv_pop hd hb hc hl
    have hin := oc_in hbx.2
    rw [oc_and x hbx.2, oc_c0, oc_b0]
    refine br_f hx0 (nm_e ?_)
    rw [oc_cl hbx.2]
    refine ⟨hin, nm_e ⟨by rw [em]; exact oc_narrow hm8, by rw [em]; exact oc_fits hm8, hin, nm_e ⟨hin, nm_e (nm_e ?_)⟩⟩⟩
    rw [oc_cl hbx.2]
    exact br_f hx0 ⟨hin, nm_e ⟨by rw [em]; exact oc_narrow hm8, by rw [em]; exact oc_fits hm8, hin, nm_e ⟨hin, nm_e ⟨rfl, rfl, I'⟩⟩⟩⟩
theorem i_vc_head {k : Nat} {u : SX} {v : SY} (I : i_Rel k u v) (hk : k + 2 ≤ 1024) : wpX_head (fun r => wpY_head (fun r' => r' = r ∧ i_Rel (k + 2) u v) v) u := by
  obtain ⟨rfl, I⟩ := I
  obtain ⟨fh, nx, ls⟩ := u
  exact ⟨rfl, rfl, I⟩
theorem i_vc_next {k : Nat} {u : SX} {v : SY} (I : i_Rel k u v) (hk : k + 2 ≤ 1024) (v1 : Int32) : wpX_next (fun r => wpY_next (fun r' => r' = r ∧ i_Rel (k + 2) u v) v v1) u v1 := by
  obtain ⟨rfl, I⟩ := I
  obtain ⟨fh, nx, ls⟩ := u
  unfold wpX_next wpY_next
  dsimp only
  by_cases h0 : v1 < 0
  · exact br_t h0 (br_t h0 ⟨rfl, rfl, I⟩)
  · by_cases h7 : v1 ≤ 7
    · have hin : vp_in v1 8 := by
        obtain ⟨j, hj, rfl⟩ := nI_of2 (M := 7) (n := 7) (by decide) h0 h7
        exact oc_in (by omega)
      exact br_f h0 (br_t h7 ⟨hin, br_f h0 (br_t h7 ⟨hin, rfl, rfl, I⟩)⟩)
    · exact br_f h0 (br_f h7 (br_f h0 (br_f h7 ⟨rfl, rfl, I⟩)))
end
