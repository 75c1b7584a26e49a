set_option maxRecDepth 100000
/-! the classes of the abstract heap -/
abbrev gCl : List vw_C := [(RX0, TX0, 10), (RX1, TX1, 30), (RX2, TX2, 12), (RX4, TX4, 3), (RX5, TX5, 3), (RX6, TX6, 1), (RX8, TX8, 1), (RX9, TX9, 1), (RX10, TX10, 1), (RX11, TX11, 1), (RX12, TX12, 1), (RX13, TX13, 17), (RX14, TX14, 4), (RX15, TX15, 7), (RJ1, TJ1, 3)]
