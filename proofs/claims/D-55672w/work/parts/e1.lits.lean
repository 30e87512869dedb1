/-! the texts of our classes, constants below z -/
set_option maxRecDepth 100000
def txt (s : String) : Nat → Nat := fun i => (s.toList.getD i 'x').toNat
def LitOK (G : GT) (own : String) (k : Nat) (tx : String) : Prop := ∃ (q b : Nat) (f : Nat → Int32), LitR G own k tx q ∧ StrL G q b 0 tx.length f (txt tx)
def lits : List (String × Nat × String) := [(RX1, 55, ""), (RX11, 52, ""), (RX11, 54, "d"), (RX11, 66, "ar "), (RX11, 73, "ost "), (RX11, 75, "="), (RX11, 83, "pprentice"), (RX11, 89, "aster"), (RX11, 98, "ettle"), (RX11, 105, "eave "), (RX11, 108, "year"), (RX2, 182, ""), (RX2, 184, " "), (RX2, 194, "-"), (RX2, 196, "*"), (RX8, 65, ""), (RX8, 67, " "), (RX8, 83, ".")]
/-- to be proved for the real G -/
def LitF (G : GT) : Prop := ∀ x ∈ lits, LitOK G x.1 x.2.1 x.2.2
theorem lit_X1_55 {G : GT} (h : LitF G) : LitOK G RX1 55 "" := h (RX1, 55, "") (List.mem_of_getElem? (i := 0) rfl)
theorem lit_X11_52 {G : GT} (h : LitF G) : LitOK G RX11 52 "" := h (RX11, 52, "") (List.mem_of_getElem? (i := 1) rfl)
theorem lit_X11_54 {G : GT} (h : LitF G) : LitOK G RX11 54 "d" := h (RX11, 54, "d") (List.mem_of_getElem? (i := 2) rfl)
theorem lit_X11_66 {G : GT} (h : LitF G) : LitOK G RX11 66 "ar " := h (RX11, 66, "ar ") (List.mem_of_getElem? (i := 3) rfl)
theorem lit_X11_73 {G : GT} (h : LitF G) : LitOK G RX11 73 "ost " := h (RX11, 73, "ost ") (List.mem_of_getElem? (i := 4) rfl)
theorem lit_X11_75 {G : GT} (h : LitF G) : LitOK G RX11 75 "=" := h (RX11, 75, "=") (List.mem_of_getElem? (i := 5) rfl)
theorem lit_X11_83 {G : GT} (h : LitF G) : LitOK G RX11 83 "pprentice" := h (RX11, 83, "pprentice") (List.mem_of_getElem? (i := 6) rfl)
theorem lit_X11_89 {G : GT} (h : LitF G) : LitOK G RX11 89 "aster" := h (RX11, 89, "aster") (List.mem_of_getElem? (i := 7) rfl)
theorem lit_X11_98 {G : GT} (h : LitF G) : LitOK G RX11 98 "ettle" := h (RX11, 98, "ettle") (List.mem_of_getElem? (i := 8) rfl)
theorem lit_X11_105 {G : GT} (h : LitF G) : LitOK G RX11 105 "eave " := h (RX11, 105, "eave ") (List.mem_of_getElem? (i := 9) rfl)
theorem lit_X11_108 {G : GT} (h : LitF G) : LitOK G RX11 108 "year" := h (RX11, 108, "year") (List.mem_of_getElem? (i := 10) rfl)
theorem lit_X2_182 {G : GT} (h : LitF G) : LitOK G RX2 182 "" := h (RX2, 182, "") (List.mem_of_getElem? (i := 11) rfl)
theorem lit_X2_184 {G : GT} (h : LitF G) : LitOK G RX2 184 " " := h (RX2, 184, " ") (List.mem_of_getElem? (i := 12) rfl)
theorem lit_X2_194 {G : GT} (h : LitF G) : LitOK G RX2 194 "-" := h (RX2, 194, "-") (List.mem_of_getElem? (i := 13) rfl)
theorem lit_X2_196 {G : GT} (h : LitF G) : LitOK G RX2 196 "*" := h (RX2, 196, "*") (List.mem_of_getElem? (i := 14) rfl)
theorem lit_X8_65 {G : GT} (h : LitF G) : LitOK G RX8 65 "" := h (RX8, 65, "") (List.mem_of_getElem? (i := 15) rfl)
theorem lit_X8_67 {G : GT} (h : LitF G) : LitOK G RX8 67 " " := h (RX8, 67, " ") (List.mem_of_getElem? (i := 16) rfl)
theorem lit_X8_83 {G : GT} (h : LitF G) : LitOK G RX8 83 "." := h (RX8, 83, ".") (List.mem_of_getElem? (i := 17) rfl)
