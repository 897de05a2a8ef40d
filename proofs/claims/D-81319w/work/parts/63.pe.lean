/-! the tail behind a write: plain -/
set_option maxRecDepth 100000
section TLP
variable {D : va_G} {dA : Nat → ClassId} {a0 : Nat} {H0 H : Heap} {locs : List Loc}
variable {x words : Nat} {kind longOf letters : Nat → Nat} {edW ez : Nat} {fW : Nat → Option Nat} {pa la : Nat → Nat} {rdgs : Nat} {rWord rMany rStands rRow : Nat → Nat} {edR : Nat} {fR : Nat → Option Nat} {pr lr : Nat → Nat} {so : Nat → Option Nat} {shL : Nat → Nat} {cl : Nat → Int32} {sh : Nat → Option Nat} {pS lS : Nat → Nat} {col : Nat → Nat} {tl tl' : va_W}
theorem isW_in {n : Nat} {v : Int32} (h1 : 1 ≤ n) (h2 : n < 2 ^ 31) : isW n v = inN v 0 (n - 1) := by
  rw [Bool.eq_iff_iff]
  constructor
  · intro h
    obtain ⟨j, hj, rfl⟩ := isW_t h2 h
    rw [inN_n (by decide) (by omega) (by omega)]
    exact decide_eq_true ⟨Nat.zero_le _, by omega⟩
  · intro h
    obtain ⟨j, -, hj, rfl⟩ := inN_t (by decide) (by omega) h
    rw [isW_n h2 (by omega)]
    exact decide_eq_true (by omega)
theorem i2n_nI {j : Nat} (h : j < 2 ^ 31) : i2n (nI j) = j := nI_clamp h
theorem tlK.mono (h : tlK dA x ez words kind longOf letters edW fW pa la rdgs rWord rMany rStands rRow edR fR pr lr so shL cl sh pS lS col tl) (k : ∀ z, z ∈ tl → z ∈ tl') : tlK dA x ez words kind longOf letters edW fW pa la rdgs rWord rMany rStands rRow edR fR pr lr so shL cl sh pS lS col tl' := ⟨h.1.mono k, h.2.1.mono k, h.2.2.1.mono k, h.2.2.2⟩
theorem tlI.mono (h : tlI dA x ez words kind longOf letters edW fW pa la rdgs rWord rMany rStands rRow edR fR pr lr so shL cl sh pS lS col tl) (k : ∀ z, z ∈ tl → z ∈ tl') : tlI dA x ez words kind longOf letters edW fW pa la rdgs rWord rMany rStands rRow edR fR pr lr so shL cl sh pS lS col tl' := ⟨h.1.mono k, h.2.1.mono k, h.2.2.1.mono k, h.2.2.2⟩
/-- a letter of a word -/
theorem tlI.putL (h : tlI dA x ez words kind longOf letters edW fW pa la rdgs rWord rMany rStands rRow edR fR pr lr so shL cl sh pS lS col tl) (hu : unW tl) (hw4 : words ≤ 4) (hr8 : rdgs ≤ 8) (hlo : ∀ w, longOf w ≤ 4) {i k v k_ : Nat} (hi : i < words) (hk : k < longOf i) (hk_ : tl[k_]? = some (la i, aI dA (longOf i) (nF fun z => letters (4 * i + z)))) :
    tlK dA x ez words kind longOf (va_up letters (4 * i + k) v) edW fW pa la rdgs rWord rMany rStands rRow edR fR pr lr so shL cl sh pS lS col (tl.set k_ (la i, aI dA (longOf i) (upd (nF fun z => letters (4 * i + z)) k (nI v)))) := by
  obtain ⟨hw, hr, hs, hc1, hc2, hc3, hc4, hc5⟩ := h
  have kp : kpW (la i) tl (tl.set k_ (la i, aI dA (longOf i) (upd (nF fun z => letters (4 * i + z)) k (nI v)))) := set_kp hk_
  have hq := List.mem_of_getElem? hk_
  have ci := hc1 i hi
  refine ⟨⟨hw.1.elim Or.inl fun z => Or.inr (kp _ z (hu.ne z hq oi_ne)), fun j hj => ⟨(hw.2 j hj).1, kp _ (hw.2 j hj).2.1 (hu.ne (hw.2 j hj).2.1 hq ni_ne), ?_⟩⟩, hr.wk.kpI hu hq kp (fun j hj e => ?_), hs.wk.kpI hu hq kp (fun j hj hn e => ?_), hc1, hc2, hc3, hc4, hc5⟩
  · by_cases e : j = i
    · subst e
      refine ⟨_, set_in hk_ _, fun z hz => ?_⟩
      unfold upd
      by_cases q : z = k
      · rw [if_pos q, q, va_up_self]
      · rw [if_neg q, va_up_ne _ _ (by omega)]
        rfl
    · have cj := hc1 j hj
      refine ⟨_, kp _ (hw.2 j hj).2.2 (fun q => ?_), fun z hz => ?_⟩
      · have q : la j = la i := q
        rw [q] at cj
        omega
      · have l1 := hlo j
        have l2 := hlo i
        rw [va_up_ne _ _ (by omega)]
        rfl
  · have cj := hc2 j hj
    rw [e] at cj
    omega
  · have cj := hc3 j hj hn
    rw [e] at cj
    omega
/-- another word's object in its place -/
theorem tlI.putW (h : tlI dA x ez words kind longOf letters edW fW pa la rdgs rWord rMany rStands rRow edR fR pr lr so shL cl sh pS lS col tl) (hu : unW tl) (hw4 : words ≤ 4) {i v kd k_ : Nat} (hi : i < words) (hm : (v, plF kd (la i) x) ∈ tl) (hez : edR ≠ ez → (edR, aO dA 10 fR) ∈ tl) (hne : edW ≠ ez) (hk_ : tl[k_]? = some (edW, aO dA 10 fW)) :
    tlK dA x ez words (va_up kind i kd) longOf letters edW (va_up fW i (some v)) (va_up pa i v) la rdgs rWord rMany rStands rRow edR fR pr lr so shL cl sh pS lS col (tl.set k_ (edW, aO dA 10 (va_up fW i (some v)))) := by
  obtain ⟨hw, hr, hs, hc1, hc2, hc3, hc4, hc5⟩ := h
  have kp : kpW edW tl (tl.set k_ (edW, aO dA 10 (va_up fW i (some v)))) := set_kp hk_
  have hq := List.mem_of_getElem? hk_
  refine ⟨⟨Or.inr (set_in hk_ _), fun j hj => ?_⟩, hr.wk.kp kp (fun z e => ?_) (fun j hj => hu.ne (hr.2 j hj).2.1 hq ni_ne) (fun j hj => hu.ne (hr.2 j hj).2.2 hq io_ne), hs.wk.kpO hu hq kp, hc1, hc2, hc3, hc4, hc5⟩
  · by_cases e : j = i
    · subst e
      exact ⟨by rw [va_up_self, va_up_self], by rw [va_up_self, va_up_self]; exact kp _ hm (hu.ne hm hq ni_ne), _, kp _ (hw.2 j hj).2.2 (hu.ne (hw.2 j hj).2.2 hq io_ne), fun _ _ => rfl⟩
    · exact ⟨by rw [va_up_ne _ _ e, va_up_ne _ _ e]; exact (hw.2 j hj).1, by rw [va_up_ne _ _ e, va_up_ne _ _ e]; exact kp _ (hw.2 j hj).2.1 (hu.ne (hw.2 j hj).2.1 hq ni_ne), _, kp _ (hw.2 j hj).2.2 (hu.ne (hw.2 j hj).2.2 hq io_ne), fun _ _ => rfl⟩
  · have c1 := hc4 hne
    have c2 := hc5 (by rw [e]; exact hne)
    rw [e, c1] at c2
    omega
/-- one reading less -/
theorem tlI.cutR (h : tlI dA x ez words kind longOf letters edW fW pa la (rdgs + 1) rWord rMany rStands rRow edR fR pr lr so shL cl sh pS lS col tl) (hu : unW tl) (hne : edR ≠ ez) {k_ : Nat} (hk_ : tl[k_]? = some (edR, aO dA 10 fR)) :
    tlK dA x ez words kind longOf letters edW fW pa la rdgs rWord rMany rStands rRow edR (va_up fR rdgs none) pr lr so shL cl sh pS lS col (tl.set k_ (edR, aO dA 10 (va_up fR rdgs none))) := by
  obtain ⟨hw, hr, hs, hc1, hc2, hc3, hc4, hc5⟩ := h
  have kp : kpW edR tl (tl.set k_ (edR, aO dA 10 (va_up fR rdgs none))) := set_kp hk_
  have hq := List.mem_of_getElem? hk_
  refine ⟨hw.wk.kp kp (fun z e => ?_) (fun j hj => hu.ne (hw.2 j hj).2.1 hq ni_ne) (fun j hj => hu.ne (hw.2 j hj).2.2 hq io_ne), ⟨Or.inr (set_in hk_ _), fun j hj => ?_⟩, hs.wk.kpO hu hq kp, hc1, fun i hi => hc2 i (by omega), hc3, hc4, hc5⟩
  · have c2 := hc5 hne
    have c1 := hc4 (by rw [e]; exact hne)
    rw [e, c2] at c1
    omega
  · have hj' : j < rdgs + 1 := by omega
    exact ⟨by rw [va_up_ne _ _ (by omega)]; exact (hr.2 j hj').1, kp _ (hr.2 j hj').2.1 (hu.ne (hr.2 j hj').2.1 hq ni_ne), _, kp _ (hr.2 j hj').2.2 (hu.ne (hr.2 j hj').2.2 hq io_ne), fun _ _ => rfl⟩
/-- the readings' array, written behind them -/
theorem tlK.putR (h : tlK dA x ez words kind longOf letters edW fW pa la rdgs rWord rMany rStands rRow edR fR pr lr so shL cl sh pS lS col tl) (hu : unW tl) {v k_ : Nat} (hne : edR ≠ ez) (hk_ : tl[k_]? = some (edR, aO dA 10 fR)) :
    tlK dA x ez words kind longOf letters edW fW pa la rdgs rWord rMany rStands rRow edR (va_up fR rdgs (some v)) pr lr so shL cl sh pS lS col (tl.set k_ (edR, aO dA 10 (va_up fR rdgs (some v)))) := by
  obtain ⟨hw, hr, hs, hc1, hc2, hc3, hc4, hc5⟩ := h
  have kp : kpW edR tl (tl.set k_ (edR, aO dA 10 (va_up fR rdgs (some v)))) := set_kp hk_
  have hq := List.mem_of_getElem? hk_
  refine ⟨hw.kp kp (fun z e => ?_) (fun j hj => hu.ne (hw.2 j hj).2.1 hq ni_ne) (fun j hj => (hw.2 j hj).2.2.elim fun f z => hu.ne z.1 hq io_ne), ⟨Or.inr (set_in hk_ _), fun j hj => ?_⟩, hs.kpO hu hq kp, hc1, hc2, hc3, hc4, hc5⟩
  · have c2 := hc5 hne
    have c1 := hc4 (by rw [e]; exact hne)
    rw [e, c2] at c1
    omega
  · obtain ⟨h1, h2, f, h3, h4⟩ := hr.2 j hj
    exact ⟨by rw [va_up_ne _ _ (by omega)]; exact h1, kp _ h2 (hu.ne h2 hq ni_ne), f, kp _ h3 (hu.ne h3 hq io_ne), h4⟩
/-- one reading more -/
theorem tlK.addR (h : tlK dA x ez words kind longOf letters edW fW pa la rdgs rWord rMany rStands rRow edR fR pr lr so shL cl sh pS lS col tl) {w n st v lv : Nat} {g : Nat → Int32} {row : Nat → Nat} (hf : fR rdgs = some v) (hm : (v, .inr (5, [.int (nI w), .ref lv, .int (nB (decide (st = 1)))])) ∈ tl) (hl : (lv, aI dA n g) ∈ tl) (hn8 : n ≤ 8) (hrM : ∀ i, rMany i ≤ 8) (hg : ∀ k, k < n → g k = nI (row k)) (hc : col lv = 20 + rdgs) (he : (edR, aO dA 10 fR) ∈ tl) :
    tlK dA x ez words kind longOf letters edW fW pa la (rdgs + 1) (va_up rWord rdgs w) (va_up rMany rdgs n) (va_up rStands rdgs st) (rwP rRow (8 * rdgs) n row) edR fR (va_up pr rdgs v) (va_up lr rdgs lv) so shL cl sh pS lS col tl := by
  obtain ⟨hw, hr, hs, hc1, hc2, hc3, hc4, hc5⟩ := h
  refine ⟨hw, ⟨Or.inr he, fun j hj => ?_⟩, hs, hc1, fun i hi => ?_, hc3, hc4, hc5⟩
  · by_cases e : j = rdgs
    · subst e
      refine ⟨by rw [va_up_self]; exact hf, ?_, g, ?_, fun k hk => ?_⟩
      · rw [va_up_self, va_up_self, va_up_self, va_up_self]
        exact hm
      · rw [va_up_self, va_up_self]
        exact hl
      · rw [va_up_self] at hk
        rw [hg k hk]
        unfold rwP
        rw [if_pos (by omega)]
        exact congrArg (fun z => nI (row z)) (by omega)
    · obtain ⟨h1, h2, f, h3, h4⟩ := hr.2 j (by omega)
      have b1 := hrM j
      refine ⟨by rw [va_up_ne _ _ e]; exact h1, ?_, f, ?_, fun k hk => ?_⟩
      · rw [va_up_ne _ _ e, va_up_ne _ _ e, va_up_ne _ _ e, va_up_ne _ _ e]
        exact h2
      · rw [va_up_ne _ _ e, va_up_ne _ _ e]
        exact h3
      · rw [va_up_ne _ _ e] at hk
        rw [h4 k hk]
        unfold rwP
        rw [if_neg (by omega)]
  · by_cases e : i = rdgs
    · rw [e, va_up_self]
      exact hc
    · rw [va_up_ne _ _ e]
      exact hc2 i (by omega)
theorem nvS.fr {pre ow ex : va_W} {q : Nat} {c : va_E} (h : nvS D a0 (pre ++ ((q, c) :: ow ++ ex)) H0 H locs) : ∀ z, z ∈ ow → z.1 ≠ q := by
  intro z hz e
  have hn := (va_D_nd.mp h.2.1).1
  rw [List.map_append] at hn
  have h2 := (List.nodup_append.mp hn).2.1
  rw [List.cons_append, List.map_cons, List.nodup_cons] at h2
  exact h2.1 (List.mem_map.mpr ⟨z, List.mem_append_left _ hz, e⟩)
theorem rd_g {cells : Nat → Int32} {p m : Nat} (h : alB cells p m = true) : ∀ k, k < m → cfN cells p m k = nI (rwC cells p m k) := fun k hk => by rw [cfN_n h]; rfl
/-- another array for the readings (empty as yet) -/
theorem tlK.newR (h : tlK dA x ez words kind longOf letters edW fW pa la rdgs rWord rMany rStands rRow edR fR pr lr so shL cl sh pS lS col tl) (h0 : rdgs = 0) {q : Nat} {f : Nat → Option Nat} (hq : (q, aO dA 10 f) ∈ tl) (hc : col q = 2) :
    tlK dA x ez words kind longOf letters edW fW pa la rdgs rWord rMany rStands rRow q f pr lr so shL cl sh pS lS col tl :=
  ⟨h.1, ⟨Or.inr hq, fun j hj => absurd hj (by omega)⟩, h.2.2.1, h.2.2.2.1, h.2.2.2.2.1, h.2.2.2.2.2.1, h.2.2.2.2.2.2.1, fun _ => hc⟩
/-- a colour for a new cell -/
theorem coW.up (h : coW words la rdgs lr so lS edW edR ez col) {q c : Nat} (h1 : ∀ i, i < words → la i ≠ q) (h2 : ∀ i, i < rdgs → lr i ≠ q) (h3 : ∀ k, k < 4 → so k ≠ none → lS k ≠ q) (h4 : edW ≠ ez → edW ≠ q) (h5 : edR ≠ ez → edR ≠ q) : coW words la rdgs lr so lS edW edR ez (va_up col q c) :=
  ⟨fun i hi => (va_up_ne _ _ (h1 i hi)).trans (h.1 i hi), fun i hi => (va_up_ne _ _ (h2 i hi)).trans (h.2.1 i hi), fun k hk hn => (va_up_ne _ _ (h3 k hk hn)).trans (h.2.2.1 k hk hn), fun z => (va_up_ne _ _ (h4 z)).trans (h.2.2.2.1 z), fun z => (va_up_ne _ _ (h5 z)).trans (h.2.2.2.2 z)⟩
theorem tlK_rec (h : tlK dA x ez words kind longOf letters edW fW pa la rdgs rWord rMany rStands rRow edR fR pr lr so shL cl sh pS lS col tl) {q c : Nat} (hq : ∀ z, z ∈ tl → z.1 ≠ q) (hW : edW ≠ ez → (edW, aO dA 10 fW) ∈ tl) (hR : edR ≠ ez → (edR, aO dA 10 fR) ∈ tl) : tlK dA x ez words kind longOf letters edW fW pa la rdgs rWord rMany rStands rRow edR fR pr lr so shL cl sh pS lS (va_up col q c) tl :=
  ⟨h.1, h.2.1, h.2.2.1, h.2.2.2.up (fun i hi => (h.1.2 i hi).2.2.elim fun f z => hq _ z.1) (fun i hi => (h.2.1.2 i hi).2.2.elim fun f z => hq _ z.1) (fun k hk hn => by obtain ⟨v, hv⟩ := so_some hn; obtain ⟨-, -, -, f, z, -⟩ := (h.2.2.1 k hk).2 v hv; exact hq _ z) (fun z => hq _ (hW z)) (fun z => hq _ (hR z))⟩
theorem wdWk.e (h : wdWk dA x words kind longOf letters edW ez fW pa la tl) (hne : edW ≠ ez) : (edW, aO dA 10 fW) ∈ tl := h.1.elim (fun z => absurd z.2 hne) id
theorem rdWk.e (h : rdWk dA rdgs rWord rMany rStands rRow edR ez fR pr lr tl) (hne : edR ≠ ez) : (edR, aO dA 10 fR) ∈ tl := h.1.elim (fun z => absurd z.2 hne) id
/-- the class of a word's object -/
def plQ (kd : Nat) : vw_C := if kd = 0 then (RX5, TX5, 2) else if kd = 1 then (RX6, TX6, 3) else (RX7, TX7, 4)
theorem plQ_c {kd : Nat} (h : kd < 3) : vwCl[2 + kd]? = some (plQ kd) := by
  rcases (by omega : kd = 0 ∨ kd = 1 ∨ kd = 2) with rfl | rfl | rfl <;> rfl
theorem plQ_s {kd : Nat} (h : kd < 3) : ((plQ kd).1, "java/lang/Object") ∈ nvCs := by
  rcases (by omega : kd = 0 ∨ kd = 1 ∨ kd = 2) with rfl | rfl | rfl
  · exact List.mem_of_getElem? (i := 0) rfl
  · exact List.mem_of_getElem? (i := 1) rfl
  · exact List.mem_of_getElem? (i := 2) rfl
end TLP
